set_option maxRecDepth 100000
set_option maxHeartbeats 1000000
section
variable {Z : Nat → Prop} {σ σ' τ τ' : Hp} {o r b : Nat} {X : Txt} {K E : Crt} {β : Type}
/-- no row yet -/
theorem h_gd2 (I : QI Z σ o r X K) (k : Hp → Option (Unit × Hp)) : ∃ σ' : Hp, f_X0_goesDeeper_L2 o FU σ 0 k = k σ' ∧ RcB X K (o + 264) (fun _ _ => False) σ' ∧ chgH (fun y => o + 264 ≤ y ∧ y < o + 272) σ σ' := by
  obtain ⟨hO, hx, hZ, hK, hX, hW⟩ := I
  have I : QI Z σ o r X K := ⟨hO, hx, hZ, hK, hX, hW⟩
  have J := I.ci
  have hc := hO.court
  have a0 := hX.1
  have a1 := hX.2.2.1
  have a4 := hX.2.2.2.1
  have a2 := hW.1
  refine loop (S := Hp × Int) (fun fl q => f_X0_goesDeeper_L2 o fl q.1 q.2 k) (fun w => ∃ σ' : Hp, w = k σ' ∧ RcB X K (o + 264) (fun _ _ => False) σ' ∧ chgH (fun y => o + 264 ≤ y ∧ y < o + 272) σ σ')
    (fun i q => q.2 = (i : Int) ∧ (∀ k t : Int, 0 ≤ k → k < i → 0 ≤ t → t ≤ kMi K → ci q.1 (o + 264 + k.toNat) t = 0) ∧ chgH (fun y => o + 264 ≤ y ∧ y < o + 272) σ q.1) (xK X).toNat ?_ ?_ (xK X).toNat 0 FU (σ, 0) (by omega) (by rw [FU_eq]; omega) ⟨rfl, fun _ _ _ h => by omega, chgH.rf _ _⟩
  · rintro fl i ⟨τ, q⟩ hi ⟨rfl, hy, cy⟩
    dsimp only at hy cy ⊢
    have qy : chgQ o σ τ := chgQ.of cy (fun w hw => by unfold qS; omega)
    have I2 := I.chg qy
    have hO2 := I2.1
    have lp : ∃ τ' : Hp, f_X0_goesDeeper_L12 o FU τ i 0 (fun s10 x1 => f_X0_goesDeeper_L2 o fl s10 (x1 + 1) k) = f_X0_goesDeeper_L2 o fl τ' ((i : Int) + 1) k ∧ (∀ t : Int, 0 ≤ t → t ≤ kMi K → ci τ' (o + 264 + (i : Int).toNat) t = 0) ∧ chgH (fun y => y = o + 264 + (i : Int).toNat) τ τ' := by
      refine loop (S := Hp × Int) (fun f q => f_X0_goesDeeper_L12 o f q.1 i q.2 (fun s10 x1 => f_X0_goesDeeper_L2 o fl s10 (x1 + 1) k)) (fun w => ∃ τ' : Hp, w = f_X0_goesDeeper_L2 o fl τ' ((i : Int) + 1) k ∧ (∀ t : Int, 0 ≤ t → t ≤ kMi K → ci τ' (o + 264 + (i : Int).toNat) t = 0) ∧ chgH (fun y => y = o + 264 + (i : Int).toNat) τ τ')
        (fun j q => q.2 = (j : Int) ∧ (∀ t : Int, 0 ≤ t → t < j → ci q.1 (o + 264 + (i : Int).toNat) t = 0) ∧ chgH (fun y => y = o + 264 + (i : Int).toNat) τ q.1) (kMi K + 1).toNat ?_ ?_ (kMi K + 1).toNat 0 FU (τ, 0) (by omega) (by rw [FU_eq]; omega) ⟨rfl, fun _ _ h => by omega, chgH.rf _ _⟩
      · rintro f j ⟨y, q⟩ hj ⟨rfl, hz, cz⟩
        dsimp only at hz cz ⊢
        have I3 := I2.chg (chgQ.of cz (fun w hw => by rw [hw]; unfold qS; omega))
        have hO3 := I3.1
        obtain ⟨g, hg⟩ := o_s264 hO3 (i := i) (by omega) (by omega)
        right
        refine ⟨(wr y (o + 264 + (i : Int).toNat) j 0, ((j + 1 : Nat) : Int)), ?_, rfl, ?_, cz.wr rfl _ _⟩
        · have hw : ∀ v : Int, sI y 102 (some (o + 264 + (i : Int).toNat)) j v = some (wr y (o + 264 + (i : Int).toNat) j v) := fun v => sI_s hg v (by omega) (by omega) (by omega)
          rw [f_X0_goesDeeper_L12, o_g7 hO3, cb_mi I3.ci, nrm_i (by omega) (by omega), nrm_i (by omega) (by omega), if_neg (by omega), o_g15 hO3, o_r263 hO3 (by omega) (by omega), obP (hw _), b1_0]
          rfl
        · intro t t0 t1
          dsimp only
          rw [wr_ci (h := hg)]
          by_cases e : t = j
          · rw [e, fuE]
          · rw [fuN _ _ e]; exact hz t t0 (by omega)
      · rintro f ⟨y, q⟩ ⟨rfl, hz, cz⟩
        dsimp only at hz cz ⊢
        have I3 := I2.chg (chgQ.of cz (fun w hw => by rw [hw]; unfold qS; omega))
        refine ⟨y, ?_, fun t t0 t1 => hz t t0 (by omega), cz⟩
        rw [f_X0_goesDeeper_L12, o_g7 I3.1, cb_mi I3.ci, nrm_i (by omega) (by omega), nrm_i (by omega) (by omega), if_pos (by omega)]
    obtain ⟨τ', e', h', c'⟩ := lp
    right
    refine ⟨(τ', ((i + 1 : Nat) : Int)), ?_, rfl, fun k t k0 k1 t0 t1 => ?_, cy.tr (c'.up fun w hw => by omega)⟩
    · rw [f_X0_goesDeeper_L2, o_rcv hO2, h_mirrors I2, nrm_i (by omega) (by omega), nrm_i (by omega) (by omega), if_neg (by omega), e']
      rfl
    · dsimp only
      by_cases e : k = i
      · rw [e]; exact h' t t0 t1
      · rw [c'.num (by omega)]
        exact hy k t k0 (by omega) t0 t1
  · rintro fl ⟨τ, q⟩ ⟨rfl, hy, cy⟩
    dsimp only at hy cy ⊢
    have I2 := I.chg (chgQ.of (o := o) cy (fun w hw => by unfold qS; omega))
    refine ⟨τ, ?_, fun k t k0 k1 t0 t1 => ?_, cy⟩
    · rw [f_X0_goesDeeper_L2, o_rcv I2.1, h_mirrors I2, nrm_i (by omega) (by omega), nrm_i (by omega) (by omega), if_pos (by omega)]
    · rw [hy k t k0 (by omega) t0 t1]
      exact ⟨Or.inl rfl, ⟨fun h => absurd h (by decide), fun h => h.elim⟩⟩
/-- what is seen in one -/
def gdC (K : Crt) (k t j u : Int) : Prop := shw K k t = u ∧ 0 ≤ u ∧ ¬ j = k ∧ kH K j u = kH K k u
def gdS (o : Nat) (y : Nat) : Prop := y = o + 252 ∨ (o + 264 ≤ y ∧ y < o + 272)
theorem gd_q {o : Nat} {a b : Hp} (h : chgH (gdS o) a b) : chgQ o a b := chgQ.of h (fun w hw => by unfold gdS at hw; unfold qS; omega)
theorem RcB.wr1 (hO : Osh τ o r) (a4 : xK X ≤ 8) (a2 : kMi K ≤ 299) {P : Int → Int → Prop} (h : RcB X K (o + 264) P τ) {j u : Int} (j0 : 0 ≤ j) (j1 : j < xK X) : RcB X K (o + 264) (fun j' u' => P j' u' ∨ (j' = j ∧ u' = u)) (wr τ (o + 264 + j.toNat) u 1) := by
  intro k t k0 k1 t0 t1
  have h1 := h k t k0 k1 t0 t1
  by_cases e : k = j
  · subst e
    obtain ⟨g, hg⟩ := o_s264 hO (i := k) k0 (by omega)
    rw [wr_ci (h := hg)]
    by_cases e2 : t = u
    · rw [e2, fuE]
      exact ⟨Or.inr rfl, ⟨fun _ => Or.inr ⟨rfl, rfl⟩, fun _ => rfl⟩⟩
    · rw [fuN _ _ e2]
      exact ⟨h1.1, h1.2.trans ⟨fun h => Or.inl h, fun h => h.elim id (fun h => absurd h.2 e2)⟩⟩
  · rw [wr_cne _ _ _ (by omega)]
    exact ⟨h1.1, h1.2.trans ⟨fun h => Or.inl h, fun h => h.elim id (fun h => absurd h.1 e)⟩⟩
theorem h_gd83 (I : QI Z σ o r X K) {k t : Int} (k0 : 0 ≤ k) (k1 : k < xK X) (t0 : 0 ≤ t) (t1 : t ≤ kMi K) {P : Int → Int → Prop} (hP : RcB X K (o + 264) P σ) (kk : Hp → Int → Int → Option (Unit × Hp)) : ∃ σ' : Hp, f_X0_goesDeeper_L83 o FU σ k t 0 kk = kk σ' k t ∧ RcB X K (o + 264) (fun j u => P j u ∨ gdC K k t j u) σ' ∧ chgH (gdS o) σ σ' := by
  obtain ⟨hO, hx, hZ, hK, hX, hW⟩ := I
  have I : QI Z σ o r X K := ⟨hO, hx, hZ, hK, hX, hW⟩
  have J := I.ci
  have hc := hO.court
  have a0 := hX.1
  have a1 := hX.2.2.1
  have a4 := hX.2.2.2.1
  have a2 := hW.1
  have hs := shw_le hW k0 k1 t0 t1
  refine loop (S := Hp × Int) (fun fl q => f_X0_goesDeeper_L83 o fl q.1 k t q.2 kk) (fun w => ∃ σ' : Hp, w = kk σ' k t ∧ RcB X K (o + 264) (fun j u => P j u ∨ gdC K k t j u) σ' ∧ chgH (gdS o) σ σ')
    (fun i q => q.2 = (i : Int) ∧ RcB X K (o + 264) (fun j u => P j u ∨ (j < i ∧ gdC K k t j u)) q.1 ∧ chgH (gdS o) σ q.1) (xK X).toNat ?_ ?_ (xK X).toNat 0 FU (σ, 0) (by omega) (by rw [FU_eq]; omega) ⟨rfl, hP.cg (fun j u j0 _ _ _ => ⟨fun h => Or.inl h, fun h => h.elim id (fun h => by omega)⟩), chgH.rf _ _⟩
  · rintro fl i ⟨τ, q⟩ hi ⟨rfl, hy, cy⟩
    dsimp only at hy cy ⊢
    have I2 := I.chg (gd_q cy)
    have hO2 := I2.1
    have g1 := gl_wr hO2 k t
    have q1 : chgH (gdS o) τ (wr (wr τ (o + 252) 0 k) (o + 252) 1 t) := ((chgH.rf (gdS o) τ).wr (Or.inl rfl) 0 k).wr (Or.inl rfl) 1 t
    have O1 := hO2.chg ((chgH.rf (fun y => y = o + 252) τ).wr rfl 0 k)
    have eb : ∀ {β : Type} (f : Unit → Hp → Option β), bn (f_X7_begins τ (o + 252) k t) f = f () (wr (wr τ (o + 252) 0 k) (o + 252) 1 t) := by
      intro β f
      refine bnP ?_ f
      unfold f_X7_begins
      simp (disch := omega) only [↓reduceIte, Bool.false_eq_true, nrm_i, ltT, ltF, leT, leF, eqT, eqF, not_true_eq_false, not_false_eq_true, and_self, and_true, true_and, false_and, and_false, or_true, true_or, or_false, false_or, ↓btS, ↓bnS, ↓bdS, ↓jnS, ↓obS, ↓o_w252 hO2, ↓o_w252 O1]
    have hy1 : RcB X K (o + 264) (fun j u => P j u ∨ (j < i ∧ gdC K k t j u)) (wr (wr τ (o + 252) 0 k) (o + 252) 1 t) := hy.mv (fun k' a b => by rw [wr_cne _ _ _ (by omega), wr_cne _ _ _ (by omega)])
    have I3 := I2.chg (gd_q q1)
    have e3 := h_goesTo I3 g1.1 g1.2 k0 k1 t0 t1 (j := i) (by omega) (by omega)
    generalize wr (wr τ (o + 252) 0 k) (o + 252) 1 t = τ1 at *
    have hO3 := I3.1
    right
    by_cases d : shw K k t < 0 ∨ k = i ∨ ¬ kH K i (shw K k t) = kH K k (shw K k t)
    · rw [if_pos d] at e3
      refine ⟨(τ1, ((i + 1 : Nat) : Int)), ?_, rfl, hy1.cg (fun j u j0 j1 u0 u1 => ⟨fun h => h.elim Or.inl (fun h => Or.inr ⟨by omega, h.2⟩), fun h => h.elim Or.inl (fun h => Or.inr ⟨?_, h.2⟩)⟩), cy.tr q1⟩
      · rw [f_X0_goesDeeper_L83, o_rcv hO2, h_mirrors I2, nrm_i (by omega) (by omega), nrm_i (by omega) (by omega), if_neg (by omega), o_g12 hO2, o_r252 hO2, eb, o_g12 hO3, o_g7 hO3, o_r252 hO3, bnP e3, if_pos (by decide)]
        rfl
      · by_cases e : j = i
        · exfalso
          obtain ⟨h1, g1, g2, g3, g4⟩ := h
          rw [e, ← g1] at g4
          rw [e] at g3
          rcases d with d | d | d
          · omega
          · exact g3 d.symm
          · exact d g4
        · omega
    · rw [if_neg d] at e3
      have hu : 0 ≤ shw K k t ∧ shw K k t ≤ kMi K := by omega
      have g2 := gl_wr hO3 i (shw K k t)
      have q2 : chgH (gdS o) τ1 (wr (wr τ1 (o + 252) 0 i) (o + 252) 1 (shw K k t)) := ((chgH.rf (gdS o) τ1).wr (Or.inl rfl) 0 i).wr (Or.inl rfl) 1 (shw K k t)
      have hy2 : RcB X K (o + 264) (fun j u => P j u ∨ (j < i ∧ gdC K k t j u)) (wr (wr τ1 (o + 252) 0 i) (o + 252) 1 (shw K k t)) := hy1.mv (fun k' a b => by rw [wr_cne _ _ _ (by omega), wr_cne _ _ _ (by omega)])
      have I4 := I3.chg (gd_q q2)
      generalize wr (wr τ1 (o + 252) 0 i) (o + 252) 1 (shw K k t) = τ2 at *
      have hO4 := I4.1
      have h1 : gI τ2 7 (some (o + 252)) 1 = some (shw K k t) := by obtain ⟨g, hg⟩ := o_s252 hO4; rw [gI_s hg, g2.2]
      refine ⟨(wr τ2 (o + 264 + (i : Int).toNat) (shw K k t) 1, ((i + 1 : Nat) : Int)), ?_, rfl, (RcB.wr1 hO4 a4.2 a2.2 hy2 (j := i) (u := shw K k t) (by omega) (by omega)).cg (fun j u j0 j1 u0 u1 => ⟨fun h => ?_, fun h => ?_⟩), ((cy.tr q1).tr q2).wr (by unfold gdS; omega) _ _⟩
      · rw [f_X0_goesDeeper_L83, o_rcv hO2, h_mirrors I2, nrm_i (by omega) (by omega), nrm_i (by omega) (by omega), if_neg (by omega), o_g12 hO2, o_r252 hO2, eb, o_g12 hO3, o_g7 hO3, o_r252 hO3, bnP e3, if_neg (by decide), o_g15 hO4, o_r263 hO4 (by omega) (by omega), o_g12 hO4, obP h1, b1_1, o_w264 hO4 _ (by omega) (by omega) hu.1 (by omega)]
        rfl
      · rcases h with (h | h) | h
        · exact Or.inl h
        · exact Or.inr ⟨by omega, h.2⟩
        · refine Or.inr ⟨by omega, h.2.symm, by omega, fun e => d (Or.inr (Or.inl (by omega))), ?_⟩
          rw [h.1, h.2]
          exact Classical.byContradiction fun g => d (Or.inr (Or.inr g))
      · rcases h with h | ⟨h, g⟩
        · exact Or.inl (Or.inl h)
        · by_cases e : j = i
          · exact Or.inr ⟨e, g.1.symm⟩
          · exact Or.inl (Or.inr ⟨by omega, g⟩)
  · rintro fl ⟨τ, q⟩ ⟨rfl, hy, cy⟩
    dsimp only at hy cy ⊢
    have I2 := I.chg (gd_q cy)
    refine ⟨τ, ?_, hy.cg (fun j u j0 j1 u0 u1 => ⟨fun h => h.elim Or.inl (fun h => Or.inr h.2), fun h => h.elim Or.inl (fun h => Or.inr ⟨by omega, h⟩)⟩), cy⟩
    rw [f_X0_goesDeeper_L83, o_rcv I2.1, h_mirrors I2, nrm_i (by omega) (by omega), nrm_i (by omega) (by omega), if_pos (by omega)]
theorem h_gd46 (I : QI Z σ o r X K) {S : Int → Int → Prop} (hS : RcB X K (o + 255) S σ) (hP : RcB X K (o + 264) (fun _ _ => False) σ) (kk : Hp → Option (Unit × Hp)) : ∃ σ' : Hp, f_X0_goesDeeper_L46 o FU σ 0 kk = kk σ' ∧ RcB X K (o + 264) (fun j u => ∃ k t : Nat, (k : Int) < xK X ∧ (t : Int) ≤ kMi K ∧ S k t ∧ gdC K k t j u) σ' ∧ chgH (gdS o) σ σ' := by
  obtain ⟨hO, hx, hZ, hK, hX, hW⟩ := I
  have I : QI Z σ o r X K := ⟨hO, hx, hZ, hK, hX, hW⟩
  have J := I.ci
  have hc := hO.court
  have a0 := hX.1
  have a1 := hX.2.2.1
  have a4 := hX.2.2.2.1
  have a2 := hW.1
  have hSm : ∀ {τ : Hp}, chgH (gdS o) σ τ → RcB X K (o + 255) S τ := fun c => hS.mv (fun k a b => c.num (by unfold gdS; omega))
  refine loop (S := Hp × Int) (fun fl q => f_X0_goesDeeper_L46 o fl q.1 q.2 kk) (fun w => ∃ σ' : Hp, w = kk σ' ∧ RcB X K (o + 264) (fun j u => ∃ k t : Nat, (k : Int) < xK X ∧ (t : Int) ≤ kMi K ∧ S k t ∧ gdC K k t j u) σ' ∧ chgH (gdS o) σ σ')
    (fun i q => q.2 = (i : Int) ∧ RcB X K (o + 264) (fun j u => ∃ k t : Nat, k < i ∧ (t : Int) ≤ kMi K ∧ S k t ∧ gdC K k t j u) q.1 ∧ chgH (gdS o) σ q.1) (xK X).toNat ?_ ?_ (xK X).toNat 0 FU (σ, 0) (by omega) (by rw [FU_eq]; omega) ⟨rfl, hP.cg (fun j u _ _ _ _ => ⟨fun h => h.elim, fun ⟨k, t, h, _⟩ => by omega⟩), chgH.rf _ _⟩
  · rintro fl i ⟨τ, q⟩ hi ⟨rfl, hy, cy⟩
    dsimp only at hy cy ⊢
    have I2 := I.chg (gd_q cy)
    have hO2 := I2.1
    have lp : ∃ τ' : Hp, f_X0_goesDeeper_L56 o FU τ i 0 (fun s42 x1 => f_X0_goesDeeper_L46 o fl s42 (x1 + 1) kk) = f_X0_goesDeeper_L46 o fl τ' ((i : Int) + 1) kk ∧ RcB X K (o + 264) (fun j u => (∃ k t : Nat, k < i ∧ (t : Int) ≤ kMi K ∧ S k t ∧ gdC K k t j u) ∨ ∃ t : Nat, (t : Int) ≤ kMi K ∧ S i t ∧ gdC K i t j u) τ' ∧ chgH (gdS o) σ τ' := by
      refine loop (S := Hp × Int) (fun f q => f_X0_goesDeeper_L56 o f q.1 i q.2 (fun s42 x1 => f_X0_goesDeeper_L46 o fl s42 (x1 + 1) kk)) (fun w => ∃ τ' : Hp, w = f_X0_goesDeeper_L46 o fl τ' ((i : Int) + 1) kk ∧ RcB X K (o + 264) (fun j u => (∃ k t : Nat, k < i ∧ (t : Int) ≤ kMi K ∧ S k t ∧ gdC K k t j u) ∨ ∃ t : Nat, (t : Int) ≤ kMi K ∧ S i t ∧ gdC K i t j u) τ' ∧ chgH (gdS o) σ τ')
        (fun l q => q.2 = (l : Int) ∧ RcB X K (o + 264) (fun j u => (∃ k t : Nat, k < i ∧ (t : Int) ≤ kMi K ∧ S k t ∧ gdC K k t j u) ∨ ∃ t : Nat, t < l ∧ S i t ∧ gdC K i t j u) q.1 ∧ chgH (gdS o) σ q.1) (kMi K + 1).toNat ?_ ?_ (kMi K + 1).toNat 0 FU (τ, 0) (by omega) (by rw [FU_eq]; omega) ⟨rfl, hy.cg (fun j u _ _ _ _ => ⟨fun h => Or.inl h, fun h => h.elim id (fun ⟨t, h, _⟩ => by omega)⟩), cy⟩
      · rintro f l ⟨y, q⟩ hl ⟨rfl, hz, cz⟩
        dsimp only at hz cz ⊢
        have I3 := I.chg (gd_q cz)
        have hO3 := I3.1
        have hr := hSm cz i l (by omega) (by omega) (by omega) (by omega)
        have e255 : ∀ {β : Type} (f : Int → Option β), (aI y 102 (some (o + 255 + (i : Int).toNat)) l).bind f = f (ci y (o + 255 + (i : Int).toNat) l) := fun f => o_a255 hO3 (by omega) (by omega) (by omega) (by omega) f
        right
        by_cases d : ci y (o + 255 + (i : Int).toNat) l = 1
        · obtain ⟨y', e', h', c'⟩ := h_gd83 I3 (k := i) (t := l) (by omega) (by omega) (by omega) (by omega) hz (fun s39 x1 x2 => f_X0_goesDeeper_L56 o f s39 x1 (x2 + 1) (fun s42 x1 => f_X0_goesDeeper_L46 o fl s42 (x1 + 1) kk))
          refine ⟨(y', ((l + 1 : Nat) : Int)), ?_, rfl, h'.cg (fun j u j0 j1 u0 u1 => ⟨fun h => ?_, fun h => ?_⟩), cz.tr c'⟩
          · rw [f_X0_goesDeeper_L56, o_g7 hO3, cb_mi I3.ci, nrm_i (by omega) (by omega), nrm_i (by omega) (by omega), if_neg (by omega), o_g14 hO3, o_r254 hO3 (by omega) (by omega), e255, d, if_pos (by decide), e']
            rfl
          · rcases h with (h | ⟨t, h1, h2⟩) | h
            · exact Or.inl h
            · exact Or.inr ⟨t, by omega, h2⟩
            · exact Or.inr ⟨l, by omega, hr.2.mp d, h⟩
          · rcases h with h | ⟨t, h1, h2, h3⟩
            · exact Or.inl (Or.inl h)
            · by_cases e : t = l
              · rw [e] at h3; exact Or.inr h3
              · exact Or.inl (Or.inr ⟨t, by omega, h2, h3⟩)
        · have d0 : ci y (o + 255 + (i : Int).toNat) l = 0 := by omega
          refine ⟨(y, ((l + 1 : Nat) : Int)), ?_, rfl, hz.cg (fun j u j0 j1 u0 u1 => ⟨fun h => ?_, fun h => ?_⟩), cz⟩
          · rw [f_X0_goesDeeper_L56, o_g7 hO3, cb_mi I3.ci, nrm_i (by omega) (by omega), nrm_i (by omega) (by omega), if_neg (by omega), o_g14 hO3, o_r254 hO3 (by omega) (by omega), e255, d0, if_neg (by decide)]
            rfl
          · rcases h with h | ⟨t, h1, h2⟩
            · exact Or.inl h
            · exact Or.inr ⟨t, by omega, h2⟩
          · rcases h with h | ⟨t, h1, h2, h3⟩
            · exact Or.inl h
            · by_cases e : t = l
              · rw [e] at h2; exact absurd (hr.2.mpr h2) d
              · exact Or.inr ⟨t, by omega, h2, h3⟩
      · rintro f ⟨y, q⟩ ⟨rfl, hz, cz⟩
        dsimp only at hz cz ⊢
        have I3 := I.chg (gd_q cz)
        refine ⟨y, ?_, hz.cg (fun j u j0 j1 u0 u1 => ⟨fun h => h.elim Or.inl (fun ⟨t, h1, h2⟩ => Or.inr ⟨t, by omega, h2⟩), fun h => h.elim Or.inl (fun ⟨t, h1, h2⟩ => Or.inr ⟨t, by omega, h2⟩)⟩), cz⟩
        rw [f_X0_goesDeeper_L56, o_g7 I3.1, cb_mi I3.ci, nrm_i (by omega) (by omega), nrm_i (by omega) (by omega), if_pos (by omega)]
    obtain ⟨τ', e', h', c'⟩ := lp
    right
    refine ⟨(τ', ((i + 1 : Nat) : Int)), ?_, rfl, h'.cg (fun j u j0 j1 u0 u1 => ⟨fun h => ?_, fun ⟨k, t, h1, h2, h3⟩ => ?_⟩), c'⟩
    · rw [f_X0_goesDeeper_L46, o_rcv hO2, h_mirrors I2, nrm_i (by omega) (by omega), nrm_i (by omega) (by omega), if_neg (by omega), e']
      rfl
    · rcases h with ⟨k, t, h1, h2⟩ | ⟨t, h2⟩
      · exact ⟨k, t, by omega, h2⟩
      · exact ⟨i, t, by omega, h2⟩
    · by_cases e : k = i
      · rw [e] at h3; exact Or.inr ⟨t, h2, h3⟩
      · exact Or.inl ⟨k, t, by omega, h2, h3⟩
  · rintro fl ⟨τ, q⟩ ⟨rfl, hy, cy⟩
    dsimp only at hy cy ⊢
    have I2 := I.chg (gd_q cy)
    refine ⟨τ, ?_, hy.cg (fun j u _ _ _ _ => ⟨fun ⟨k, t, h1, h2⟩ => ⟨k, t, by omega, h2⟩, fun ⟨k, t, h1, h2⟩ => ⟨k, t, by omega, h2⟩⟩), cy⟩
    rw [f_X0_goesDeeper_L46, o_rcv I2.1, h_mirrors I2, nrm_i (by omega) (by omega), nrm_i (by omega) (by omega), if_pos (by omega)]
/-- rows are copied -/
theorem h_gd150 (I : QI Z σ o r X K) {P : Int → Int → Prop} (hP : RcB X K (o + 264) P σ) (kk : Hp → Option (Unit × Hp)) : ∃ σ' : Hp, f_X0_goesDeeper_L150 o FU σ 0 kk = kk σ' ∧ RcB X K (o + 255) P σ' ∧ chgQ o σ σ' := by
  obtain ⟨hO, hx, hZ, hK, hX, hW⟩ := I
  have I : QI Z σ o r X K := ⟨hO, hx, hZ, hK, hX, hW⟩
  have J := I.ci
  have hc := hO.court
  have a0 := hX.1
  have a1 := hX.2.2.1
  have a4 := hX.2.2.2.1
  have a2 := hW.1
  refine loop (S := Hp × Int) (fun fl q => f_X0_goesDeeper_L150 o fl q.1 q.2 kk) (fun w => ∃ σ' : Hp, w = kk σ' ∧ RcB X K (o + 255) P σ' ∧ chgQ o σ σ')
    (fun i q => q.2 = (i : Int) ∧ (∀ k t : Int, 0 ≤ k → k < i → 0 ≤ t → t ≤ kMi K → ci q.1 (o + 255 + k.toNat) t = ci σ (o + 264 + k.toNat) t) ∧ chgH (fun y => o + 255 ≤ y ∧ y < o + 263) σ q.1) (xK X).toNat ?_ ?_ (xK X).toNat 0 FU (σ, 0) (by omega) (by rw [FU_eq]; omega) ⟨rfl, fun _ _ _ h => by omega, chgH.rf _ _⟩
  · rintro fl i ⟨τ, q⟩ hi ⟨rfl, hy, cy⟩
    dsimp only at hy cy ⊢
    have I2 := I.chg (chgQ.of (o := o) cy (fun w hw => by unfold qS; omega))
    have hO2 := I2.1
    obtain ⟨g, hg⟩ := o_s255 hO2 (i := i) (by omega) (by omega)
    obtain ⟨g', hg'⟩ := o_s264 hO2 (i := i) (by omega) (by omega)
    have hac := acI_s hg' hg (m := kMi K + 1) (by omega) (by omega) (by omega) (by omega)
    right
    refine ⟨(wrF τ (o + 255 + (i : Int).toNat) (cpI (ci τ (o + 264 + (i : Int).toNat)) (ci τ (o + 255 + (i : Int).toNat)) 0 0 (kMi K + 1)), ((i + 1 : Nat) : Int)), ?_, rfl, ?_, cy.wrF (by omega) _⟩
    · rw [f_X0_goesDeeper_L150, o_rcv hO2, h_mirrors I2, nrm_i (by omega) (by omega), nrm_i (by omega) (by omega), if_neg (by omega), o_g15 hO2, o_r263 hO2 (by omega) (by omega), o_g14 hO2, o_r254 hO2 (by omega) (by omega), o_g7 hO2, cb_mi I2.ci, obP hac]
      rfl
    · intro k t k0 k1 t0 t1
      dsimp only
      by_cases e : k = i
      · rw [e, wrF_ci (h := hg), cp_in _ _ t0 (by omega), cy.num (by omega)]
      · rw [wrF_cne _ _ (by omega)]
        exact hy k t k0 (by omega) t0 t1
  · rintro fl ⟨τ, q⟩ ⟨rfl, hy, cy⟩
    dsimp only at hy cy ⊢
    have qy := chgQ.of (o := o) cy (fun w hw => by unfold qS; omega)
    have I2 := I.chg qy
    refine ⟨τ, ?_, fun k t k0 k1 t0 t1 => by rw [hy k t k0 (by omega) t0 t1]; exact hP k t k0 k1 t0 t1, qy⟩
    rw [f_X0_goesDeeper_L150, o_rcv I2.1, h_mirrors I2, nrm_i (by omega) (by omega), nrm_i (by omega) (by omega), if_pos (by omega)]
theorem h_goesDeeper (I : QI Z σ o r X K) {x : Int} {n : Nat} (hS : RcB X K (o + 255) (fun k t => Sb X K x n k t = true) σ) : ∃ σ' : Hp, f_X0_goesDeeper σ o = some ((), σ') ∧ RcB X K (o + 255) (fun k t => Sb X K x (n + 1) k t = true) σ' ∧ chgQ o σ σ' := by
  unfold f_X0_goesDeeper
  obtain ⟨σ1, e1, h1, c1⟩ := h_gd2 I (fun s12 => f_X0_goesDeeper_L46 o FU s12 0 (fun s44 => f_X0_goesDeeper_L150 o FU s44 0 (fun s56 => some ((), s56))))
  have q1 : chgQ o σ σ1 := chgQ.of c1 (fun w hw => by unfold qS; omega)
  have I1 := I.chg q1
  have a4 := I.2.2.2.2.1.2.2.2.1
  have hS1 : RcB X K (o + 255) (fun k t => Sb X K x n k t = true) σ1 := hS.mv (fun k a b => c1.num (by omega))
  obtain ⟨σ2, e2, h2, c2⟩ := h_gd46 I1 hS1 h1 (fun s44 => f_X0_goesDeeper_L150 o FU s44 0 (fun s56 => some ((), s56)))
  have I2 := I1.chg (gd_q c2)
  obtain ⟨σ3, e3, h3, c3⟩ := h_gd150 I2 h2 (fun s56 => some ((), s56))
  rw [e1, e2, e3]
  exact ⟨σ3, rfl, h3.cg (fun j u _ _ _ _ => (Sb_s X K x n j u).symm), (q1.tr (gd_q c2)).tr c3⟩
theorem h_deepest (I : QI Z σ o r X K) {x z : Int} (wx : wd x) (wz : wd z) : ∃ σ' : Hp, f_X0_deepest σ o x z = some (q_deepest X K x z, σ') ∧ chgQ o σ σ' := by
  obtain ⟨hO, hx, hZ, hK, hX, hW⟩ := I
  have I : QI Z σ o r X K := ⟨hO, hx, hZ, hK, hX, hW⟩
  have J := I.ci
  have hc := hO.court
  have a0 := hX.1
  have a1 := hX.2.2.1
  have a4 := hX.2.2.2.1
  have a2 := hW.1
  unfold f_X0_deepest q_deepest
  by_cases G : (0 ≤ x ∧ x < xK X) ∧ (0 ≤ z ∧ z ≤ 1)
  · rw [if_pos G]
    obtain ⟨c1, c2⟩ := G
    obtain ⟨σ1, e1, h1, q1⟩ := h_dp29 I c1 (z := z) (fun s23 x2 x3 x4 => f_X0_deepest_L101 o FU s23 x2 x3 x4 1 (fun s47 x2 x3 x4 => (if ¬ nrm x3 = nrm 300 then ((if ¬ nrm x2 = 0 then (some (nrm x4, s47)) else (some (nrm x3, s47)))) else (some ((-2), s47)))))
    have h1' : RcB X K (o + 255) (fun k t => Sb X K x 0 k t = true) σ1 := h1.cg (fun k t _ _ _ _ => by
      show _ ↔ (decide (k = x) && decide (t = kMi K)) = true
      rw [Bool.and_eq_true, decide_eq_true_iff, decide_eq_true_iff])
    have lp : ∃ σ' : Hp, f_X0_deepest_L101 o FU σ1 z 300 0 1 (fun s47 x2 x3 x4 => (if ¬ nrm x3 = nrm 300 then ((if ¬ nrm x2 = 0 then (some (nrm x4, s47)) else (some (nrm x3, s47)))) else (some ((-2), s47)))) = some (if (lvN X K x 4).1 = 300 then -2 else if z = 0 then (lvN X K x 4).1 else (lvN X K x 4).2, σ') ∧ chgQ o σ σ' := by
      refine loop (S := Hp × Int × Int × Int) (fun fl q => f_X0_deepest_L101 o fl q.1 z q.2.1 q.2.2.1 q.2.2.2 (fun s47 x2 x3 x4 => (if ¬ nrm x3 = nrm 300 then ((if ¬ nrm x2 = 0 then (some (nrm x4, s47)) else (some (nrm x3, s47)))) else (some ((-2), s47))))) (fun w => ∃ σ' : Hp, w = some (if (lvN X K x 4).1 = 300 then -2 else if z = 0 then (lvN X K x 4).1 else (lvN X K x 4).2, σ') ∧ chgQ o σ σ')
        (fun i q => (chgQ o σ q.1 ∧ RcB X K (o + 255) (fun k t => Sb X K x i k t = true) q.1) ∧ q.2 = ((lvN X K x i).1, (lvN X K x i).2, (i : Int) + 1)) 4 ?_ ?_ 4 0 FU (σ1, 300, 0, 1) rfl (by decide) ⟨⟨q1, h1'⟩, rfl⟩
      · rintro fl i ⟨τ, q⟩ hi ⟨⟨hq, hR⟩, rfl⟩
        dsimp only at hq hR ⊢
        have I2 := I.chg hq
        have hlv := lv_in X K x i
        obtain ⟨a, e2, hu⟩ := h_dp110 I2 (x := x) (z := z) hi hR (w0 := lvN X K x i) ⟨hlv.1, hlv.2.1⟩ (fun s43 x2 x3 x4 x5 => (rcv s43 0 (some o)).bind fun b45 => bn (f_X0_goesDeeper s43 b45) fun _ s44 => f_X0_deepest_L101 o fl s44 x2 x3 x4 (x5 + 1) (fun s47 x2 x3 x4 => (if ¬ nrm x3 = nrm 300 then ((if ¬ nrm x2 = 0 then (some (nrm x4, s47)) else (some (nrm x3, s47)))) else (some ((-2), s47)))))
        have hu2 : UPd ((i : Int) + 1) (Vp X K x i) (lvN X K x i) a := hu.cg (fun v => ⟨fun ⟨k, t, g1, g2, g3, g4, g5⟩ => ⟨k, ⟨by omega, g1⟩, g5, t, g2, g3, g4⟩, fun ⟨k, ⟨k0, k1⟩, v0, t, g2, g3, g4⟩ => ⟨k.toNat, t, by omega, g2, by rw [show ((k.toNat : Nat) : Int) = k by omega]; exact g3, by rw [show ((k.toNat : Nat) : Int) = k by omega]; exact g4, v0⟩⟩)
        have ea : a = lvN X K x (i + 1) := hu2.uq (lv_up hW x i)
        obtain ⟨τ', e3, h3, q3⟩ := h_goesDeeper I2 hR
        right
        refine ⟨(τ', (lvN X K x (i + 1)).1, (lvN X K x (i + 1)).2, ((i + 1 : Nat) : Int) + 1), ?_, ⟨hq.tr q3, h3⟩, rfl⟩
        rw [f_X0_deepest_L101, nrm_i (z := 4) (by decide) (by decide), nrm_i (z := (i : Int) + 1) (by omega) (by omega), if_neg (by omega), e2, o_rcv I2.1, bnP e3, ea]
        rfl
      · rintro fl ⟨τ, q⟩ ⟨⟨hq, hR⟩, rfl⟩
        dsimp only at hq hR ⊢
        have hlv := lv_in X K x 4
        refine ⟨τ, ?_, hq⟩
        rw [f_X0_deepest_L101, if_pos (by decide)]
        generalize lvN X K x 4 = a at hlv ⊢
        rw [nrm_i (z := a.1) (by omega) (by omega), nrm_i (z := a.2) (by omega) (by omega), nrm_i (z := z) (by omega) (by omega), nrm_i (z := 300) (by decide) (by decide)]
        by_cases d : a.1 = 300
        · rw [if_neg (fun h => h d), if_pos d]
        · rw [if_pos d, if_neg d]
          by_cases d2 : z = 0
          · rw [if_neg (fun h => h d2), if_pos d2]
          · rw [if_pos d2, if_neg d2]
    obtain ⟨σ', e9, q9⟩ := lp
    refine ⟨σ', ?_, q9⟩
    rw [e9] at e1
    simp (disch := omega) only [↓reduceIte, Bool.false_eq_true, nrm_i, ltT, ltF, leT, leF, eqT, eqF, not_true_eq_false, not_false_eq_true, and_self, and_true, true_and, false_and, and_false, or_true, true_or, or_false, false_or, ↓btS, ↓bnS, ↓bdS, ↓jnS, ↓obS, ↓i_t, ↓i_f, ↓man_t I, ↓man_f I, ↓room_t I, ↓room_f I, ↓mir_t I, ↓mir_f I, ↓pas_t I, ↓pas_f I, ↓h_men I, ↓h_rooms I, ↓h_mirrors I, ↓o_rcv hO, ↓o_gI hO, ↓o_g3 hO, ↓o_g7 hO, ↓o_g8 hO, ↓o_g12 hO, ↓e1]
  · rw [if_neg G]
    refine ⟨σ, ?_, chgQ.rf _ _⟩
    by_cases c1 : 0 ≤ x ∧ x < xK X
    · by_cases c2 : 0 ≤ z ∧ z ≤ 1
      · exact absurd ⟨c1, c2⟩ G
      · simp (disch := omega) only [↓reduceIte, Bool.false_eq_true, nrm_i, ltT, ltF, leT, leF, eqT, eqF, not_true_eq_false, not_false_eq_true, and_self, and_true, true_and, false_and, and_false, or_true, true_or, or_false, false_or, ↓btS, ↓bnS, ↓bdS, ↓jnS, ↓obS, ↓i_t, ↓i_f, ↓man_t I, ↓man_f I, ↓room_t I, ↓room_f I, ↓mir_t I, ↓mir_f I, ↓pas_t I, ↓pas_f I, ↓h_men I, ↓h_rooms I, ↓h_mirrors I, ↓o_rcv hO, ↓o_gI hO, ↓o_g3 hO, ↓o_g7 hO, ↓o_g8 hO, ↓o_g12 hO]
    · simp (disch := omega) only [↓reduceIte, Bool.false_eq_true, nrm_i, ltT, ltF, leT, leF, eqT, eqF, not_true_eq_false, not_false_eq_true, and_self, and_true, true_and, false_and, and_false, or_true, true_or, or_false, false_or, ↓btS, ↓bnS, ↓bdS, ↓jnS, ↓obS, ↓i_t, ↓i_f, ↓man_t I, ↓man_f I, ↓room_t I, ↓room_f I, ↓mir_t I, ↓mir_f I, ↓pas_t I, ↓pas_f I, ↓h_men I, ↓h_rooms I, ↓h_mirrors I, ↓o_rcv hO, ↓o_gI hO, ↓o_g3 hO, ↓o_g7 hO, ↓o_g8 hO, ↓o_g12 hO]
end
