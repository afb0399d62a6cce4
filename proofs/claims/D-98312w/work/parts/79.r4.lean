set_option maxRecDepth 100000
set_option maxHeartbeats 4000000
section
variable {s : TW} {X : Txt} {K : Crt} {β : Type}
theorem t_sh115 {f : Int → Int} {lo hi z : Int} (hz : z = 0 ∨ z = 1) (hl : 0 ≤ lo ∧ lo ≤ 300) (hh : -1 ≤ hi ∧ hi ≤ 299) (hf : ∀ i : Int, 0 ≤ i → i < 300 → s.2 65 i = f i) (hb : ∀ i : Int, 0 ≤ f i ∧ f i ≤ 300) :
    f_X8_shown_L115 FU s z hi 0 lo (fun s23 x5 => some (nrm x5, s23)) = some (itr (shC z f lo) (hi + 1 - lo).toNat 0, s) := by
  obtain ⟨e, p⟩ := loopI (fun n (a : Int) i => f_X8_shown_L115 n s z hi a i (fun s23 x5 => some (nrm x5, s23))) (fun a => some (nrm a, s)) (shC z f lo) (fun i a => 0 ≤ a ∧ a ≤ i) (hi + 1 - lo).toNat lo (fl := FU) (a0 := 0) (by rw [FU_eq]; omega) ⟨by decide, by decide⟩ (fun n i a hi' hp => by
        have hbb := hb (lo + i)
        have hg : ta s 65 (lo + i) = some (f (lo + i)) := by rw [ta65 (by omega) (by omega), hf _ (by omega) (by omega)]
        rw [f_X8_shown_L115]
        unfold shC
        rcases hz with rfl | rfl
        · by_cases c : 1 < f (lo + i)
          · exact ⟨by simp (disch := omega) only [↓reduceIte, Bool.false_eq_true, nrm_i, ltT, ltF, leT, leF, eqT, eqF, not_true_eq_false, not_false_eq_true, and_self, and_true, true_and, false_and, and_false, or_true, true_or, or_false, false_or, ↓btS, ↓bnS, ↓bdS, ↓jnS, ↓obS, ↓obP hg], by simp (disch := omega) only [↓reduceIte, Bool.false_eq_true, nrm_i, ltT, ltF, leT, leF, eqT, eqF, not_true_eq_false, not_false_eq_true, and_self, and_true, true_and, false_and, and_false, or_true, true_or, or_false, false_or, ↓btS, ↓bnS, ↓bdS, ↓jnS, ↓obS] <;> omega⟩
          · exact ⟨by simp (disch := omega) only [↓reduceIte, Bool.false_eq_true, nrm_i, ltT, ltF, leT, leF, eqT, eqF, not_true_eq_false, not_false_eq_true, and_self, and_true, true_and, false_and, and_false, or_true, true_or, or_false, false_or, ↓btS, ↓bnS, ↓bdS, ↓jnS, ↓obS, ↓obP hg, Int.add_zero], by simp (disch := omega) only [↓reduceIte, Bool.false_eq_true, nrm_i, ltT, ltF, leT, leF, eqT, eqF, not_true_eq_false, not_false_eq_true, and_self, and_true, true_and, false_and, and_false, or_true, true_or, or_false, false_or, ↓btS, ↓bnS, ↓bdS, ↓jnS, ↓obS] <;> omega⟩
        · by_cases c : f (lo + i) = 0
          · exact ⟨by simp (disch := omega) only [↓reduceIte, Bool.false_eq_true, nrm_i, ltT, ltF, leT, leF, eqT, eqF, not_true_eq_false, not_false_eq_true, and_self, and_true, true_and, false_and, and_false, or_true, true_or, or_false, false_or, ↓btS, ↓bnS, ↓bdS, ↓jnS, ↓obS, ↓obP hg], by simp (disch := omega) only [↓reduceIte, Bool.false_eq_true, nrm_i, ltT, ltF, leT, leF, eqT, eqF, not_true_eq_false, not_false_eq_true, and_self, and_true, true_and, false_and, and_false, or_true, true_or, or_false, false_or, ↓btS, ↓bnS, ↓bdS, ↓jnS, ↓obS] <;> omega⟩
          · exact ⟨by simp (disch := omega) only [↓reduceIte, Bool.false_eq_true, nrm_i, ltT, ltF, leT, leF, eqT, eqF, not_true_eq_false, not_false_eq_true, and_self, and_true, true_and, false_and, and_false, or_true, true_or, or_false, false_or, ↓btS, ↓bnS, ↓bdS, ↓jnS, ↓obS, ↓obP hg, Int.add_zero], by simp (disch := omega) only [↓reduceIte, Bool.false_eq_true, nrm_i, ltT, ltF, leT, leF, eqT, eqF, not_true_eq_false, not_false_eq_true, and_self, and_true, true_and, false_and, and_false, or_true, true_or, or_false, false_or, ↓btS, ↓bnS, ↓bdS, ↓jnS, ↓obS] <;> omega⟩)
      (fun n a hp => by
        rw [f_X8_shown_L115]
        simp (disch := omega) only [↓reduceIte, Bool.false_eq_true, nrm_i, ltT, ltF, leT, leF, eqT, eqF, not_true_eq_false, not_false_eq_true, and_self, and_true, true_and, false_and, and_false, or_true, true_or, or_false, false_or, ↓btS, ↓bnS, ↓bdS, ↓jnS, ↓obS])
  exact e.trans (by rw [nrm_i (by omega) (by omega)])
theorem t_shown (Q : TQ s X K) {x z : Int} (wx : wd x) (hz : z = 0 ∨ z = 1) : ∃ s' : TW, f_X8_shown s x z = some (q_shown X K x z, s') ∧ chg qk qf s s' := by
  obtain ⟨hX, hs, hn, hW⟩ := Q
  have Q : TQ s X K := ⟨hX, hs, hn, hW⟩
  have hmi := Q.mi
  have a0 := hX.1
  have a1 := hX.2.2.1
  have a4 := hX.2.2.2.1
  have a3 := hs.1
  have a2 := hW.1
  obtain ⟨s1, e1, J, l1, C⟩ := Q.copies
  have C := C.up (ks' := qk) (fs' := qf) (by decide) (by decide)
  have b3 := J.2.1.1
  have jmi := J.mi
  unfold f_X8_shown q_shown
  by_cases c1 : 0 ≤ x ∧ x < xK X
  · rw [if_pos c1]
    have hP := sh_P hW c1.1 c1.2
    have hJ : ∀ τ : TW, chg [65] [] s1 τ → TI τ X K := fun τ e => J.chg e (by decide) (by decide) (by decide) (by decide)
    have fin : ∀ τ : TW, chg [65] [] s1 τ → (∀ i : Int, 0 ≤ i → i < 300 → τ.2 65 i = (shT K x (kMi K + 1).toNat).1 i) → f_X8_shown_L115 FU τ z (shT K x (kMi K + 1).toNat).2.2 0 (shT K x (kMi K + 1).toNat).2.1 (fun s23 x5 => some (nrm x5, s23)) = some (itr (shC z (shT K x (kMi K + 1).toNat).1 (shT K x (kMi K + 1).toNat).2.1) ((shT K x (kMi K + 1).toNat).2.2 + 1 - (shT K x (kMi K + 1).toNat).2.1).toNat 0, τ) := by
      intro τ hq hf
      have hp := hP (kMi K + 1).toNat (by omega)
      exact t_sh115 hz hp.2.1 ⟨hp.2.2.1, by omega⟩ hf (fun i => ⟨(hp.1 i).1, by have := (hp.1 i).2; omega⟩)
    have mid : ∀ τ : TW, chg [65] [] s1 τ → (∀ i : Int, 0 ≤ i → i < 300 → τ.2 65 i = 0) → ∃ s' : TW, f_X8_shown_L46 FU τ x z 300 (-1) 0 (fun s16 x2 x3 x4 => f_X8_shown_L115 FU s16 x2 x4 0 x3 (fun s23 x5 => some (nrm x5, s23))) = some (itr (shC z (shT K x (kMi K + 1).toNat).1 (shT K x (kMi K + 1).toNat).2.1) ((shT K x (kMi K + 1).toNat).2.2 + 1 - (shT K x (kMi K + 1).toNat).2.1).toNat 0, s') ∧ chg [65] [] s1 s' := by
      intro τ0 hq0 hf0
      refine loop (S := TW × Int × Int × Int) (fun n q => f_X8_shown_L46 n q.1 x z q.2.1 q.2.2.1 q.2.2.2 (fun s16 x2 x3 x4 => f_X8_shown_L115 FU s16 x2 x4 0 x3 (fun s23 x5 => some (nrm x5, s23)))) (fun w => ∃ s' : TW, w = some (itr (shC z (shT K x (kMi K + 1).toNat).1 (shT K x (kMi K + 1).toNat).2.1) ((shT K x (kMi K + 1).toNat).2.2 + 1 - (shT K x (kMi K + 1).toNat).2.1).toNat 0, s') ∧ chg [65] [] s1 s')
        (fun i q => (chg [65] [] s1 q.1 ∧ ∀ j : Int, 0 ≤ j → j < 300 → q.1.2 65 j = (shT K x i).1 j) ∧ q.2 = ((shT K x i).2.1, (shT K x i).2.2, (i : Int))) (kMi K + 1).toNat ?_ ?_ (kMi K + 1).toNat 0 FU (τ0, 300, -1, 0) (by omega) (by rw [FU_eq]; omega) ⟨⟨hq0, hf0⟩, rfl⟩
      · rintro n i ⟨τ, q⟩ hi ⟨⟨hq, hf⟩, rfl⟩
        dsimp only at hq hf ⊢
        have J2 := hJ τ hq
        have jm2 := J2.mi
        have hp := hP i (by omega)
        have hsw := shw_le hW c1.1 c1.2 (t := i) (by omega) (by omega)
        have nS := n_S hW c1.1 c1.2 (t := i) (by omega) (by omega)
        right
        have e : shT K x (i + 1) = shG K x i (shT K x i) := rfl
        rw [f_X8_shown_L46, e]
        unfold shG
        generalize shT K x i = a at hf hp ⊢
        by_cases c : shw K x i < 0
        · refine ⟨(τ, (a.2.1, a.2.2, ((i + 1 : Nat) : Int))), ?_, ⟨hq, by rw [if_pos c]; exact hf⟩, by rw [if_pos c]⟩
          simp (disch := omega) only [↓reduceIte, Bool.false_eq_true, nrm_i, ltT, ltF, leT, leF, eqT, eqF, not_true_eq_false, not_false_eq_true, and_self, and_true, true_and, false_and, and_false, or_true, true_or, or_false, false_or, ↓btS, ↓bnS, ↓bdS, ↓jnS, ↓obS, nS, jm2, ↓tb_showsAt J2, c]
          rfl
        · have hb := hp.1 (shw K x i)
          have hr : ta τ 65 (shw K x i) = some (a.1 (shw K x i)) := by rw [ta65 (by omega) (by omega), hf _ (by omega) (by omega)]
          have hw : ∀ v : Int, ts τ 65 (shw K x i) v = some (tst τ 65 (shw K x i) v) := fun v => ts65 (by omega) (by omega)
          have e1 : nrm (a.1 (shw K x i) + 1) = a.1 (shw K x i) + 1 := nrm_i (by omega) (by omega)
          refine ⟨(tst τ 65 (shw K x i) (a.1 (shw K x i) + 1), ((if shw K x i < a.2.1 then shw K x i else a.2.1), (if a.2.2 < shw K x i then shw K x i else a.2.2), ((i + 1 : Nat) : Int))), ?_, ⟨hq.ts (by decide) _ _, ?_⟩, by rw [if_neg c]⟩
          · by_cases d1 : shw K x i < a.2.1
            · by_cases d2 : a.2.2 < shw K x i
              · simp (disch := omega) only [↓reduceIte, Bool.false_eq_true, nrm_i, ltT, ltF, leT, leF, eqT, eqF, not_true_eq_false, not_false_eq_true, and_self, and_true, true_and, false_and, and_false, or_true, true_or, or_false, false_or, ↓btS, ↓bnS, ↓bdS, ↓jnS, ↓obS, nS, jm2, ↓tb_showsAt J2, c, ↓obP hr, ↓obP (hw _), e1]; rfl
              · simp (disch := omega) only [↓reduceIte, Bool.false_eq_true, nrm_i, ltT, ltF, leT, leF, eqT, eqF, not_true_eq_false, not_false_eq_true, and_self, and_true, true_and, false_and, and_false, or_true, true_or, or_false, false_or, ↓btS, ↓bnS, ↓bdS, ↓jnS, ↓obS, nS, jm2, ↓tb_showsAt J2, c, ↓obP hr, ↓obP (hw _), e1]; rfl
            · by_cases d2 : a.2.2 < shw K x i
              · simp (disch := omega) only [↓reduceIte, Bool.false_eq_true, nrm_i, ltT, ltF, leT, leF, eqT, eqF, not_true_eq_false, not_false_eq_true, and_self, and_true, true_and, false_and, and_false, or_true, true_or, or_false, false_or, ↓btS, ↓bnS, ↓bdS, ↓jnS, ↓obS, nS, jm2, ↓tb_showsAt J2, c, ↓obP hr, ↓obP (hw _), e1]; rfl
              · simp (disch := omega) only [↓reduceIte, Bool.false_eq_true, nrm_i, ltT, ltF, leT, leF, eqT, eqF, not_true_eq_false, not_false_eq_true, and_self, and_true, true_and, false_and, and_false, or_true, true_or, or_false, false_or, ↓btS, ↓bnS, ↓bdS, ↓jnS, ↓obS, nS, jm2, ↓tb_showsAt J2, c, ↓obP hr, ↓obP (hw _), e1]; rfl
          · intro j j0 j1
            dsimp only
            rw [if_neg c, tst_eq]
            dsimp only
            by_cases e : j = shw K x i
            · rw [e, fuE, fuE]
            · rw [fuN _ _ e, fuN _ _ e]
              exact hf j j0 j1
      · rintro n ⟨τ, q⟩ ⟨⟨hq, hf⟩, rfl⟩
        dsimp only at hq hf ⊢
        have jm2 := (hJ τ hq).mi
        refine ⟨τ, ?_, hq⟩
        have f9 := fin τ hq hf
        rw [f_X8_shown_L46]
        simp (disch := omega) only [↓reduceIte, Bool.false_eq_true, nrm_i, ltT, ltF, leT, leF, eqT, eqF, not_true_eq_false, not_false_eq_true, and_self, and_true, true_and, false_and, and_false, or_true, true_or, or_false, false_or, ↓btS, ↓bnS, ↓bdS, ↓jnS, ↓obS, jm2, ↓f9]
    have beg : ∃ s' : TW, f_X8_shown_L16 FU s1 x z 0 (fun s6 x1 x2 => f_X8_shown_L46 FU s6 x1 x2 300 (-1) 0 (fun s16 x2 x3 x4 => f_X8_shown_L115 FU s16 x2 x4 0 x3 (fun s23 x5 => some (nrm x5, s23)))) = some (itr (shC z (shT K x (kMi K + 1).toNat).1 (shT K x (kMi K + 1).toNat).2.1) ((shT K x (kMi K + 1).toNat).2.2 + 1 - (shT K x (kMi K + 1).toNat).2.1).toNat 0, s') ∧ chg [65] [] s1 s' := by
      refine loop (S := TW × Int) (fun n q => f_X8_shown_L16 n q.1 x z q.2 (fun s6 x1 x2 => f_X8_shown_L46 FU s6 x1 x2 300 (-1) 0 (fun s16 x2 x3 x4 => f_X8_shown_L115 FU s16 x2 x4 0 x3 (fun s23 x5 => some (nrm x5, s23))))) (fun w => ∃ s' : TW, w = some (itr (shC z (shT K x (kMi K + 1).toNat).1 (shT K x (kMi K + 1).toNat).2.1) ((shT K x (kMi K + 1).toNat).2.2 + 1 - (shT K x (kMi K + 1).toNat).2.1).toNat 0, s') ∧ chg [65] [] s1 s')
        (fun i q => (chg [65] [] s1 q.1 ∧ ∀ j : Int, 0 ≤ j → j < i → q.1.2 65 j = 0) ∧ q.2 = (i : Int)) 300 ?_ ?_ 300 0 FU (s1, 0) rfl (by decide) ⟨⟨chg.rf _ _ _, fun j h h' => by omega⟩, rfl⟩
      · rintro n i ⟨τ, q⟩ hi ⟨⟨hq, hf⟩, rfl⟩
        dsimp only at hq hf ⊢
        right
        refine ⟨(tst τ 65 i 0, ((i + 1 : Nat) : Int)), ?_, ⟨hq.ts (by decide) _ _, ?_⟩, rfl⟩
        · rw [f_X8_shown_L16, nrm_i (z := 300) (by decide) (by decide), nrm_i (by omega) (by omega), if_neg (by omega), sb65 (by omega) (by omega)]
          rfl
        · intro j j0 j1
          dsimp only
          rw [tst_eq]
          by_cases e : j = i
          · rw [e, fuE]
          · rw [fuN _ _ e]
            exact hf j j0 (by omega)
      · rintro n ⟨τ, q⟩ ⟨⟨hq, hf⟩, rfl⟩
        dsimp only at hq hf ⊢
        rw [f_X8_shown_L16, if_pos (by decide)]
        exact mid τ hq (fun i i0 i1 => hf i i0 (by omega))
    obtain ⟨s', e9, q9⟩ := beg
    refine ⟨s', ?_, C.tr (q9.up (by decide) (by decide))⟩
    clear hP fin mid
    simp (disch := omega) only [↓reduceIte, Bool.false_eq_true, nrm_i, ltT, ltF, leT, leF, eqT, eqF, not_true_eq_false, not_false_eq_true, and_self, and_true, true_and, false_and, and_false, or_true, true_or, or_false, false_or, ↓btS, ↓bnS, ↓bdS, ↓jnS, ↓obS, n_W hX hW, n_R hW, n_H hX hW, n_U hW, n_L hW, n_B hW, n_S hW, n_M hX, n_Ms hX, n_P, ↓ti_t, ↓ti_f, ↓tman_t hX hs, ↓tman_f hX hs, ↓troom_t hX hs, ↓troom_f hX hs, ↓tmir_t hX hs, ↓tmir_f hX hs, ↓tpas_t hn hW, ↓tpas_f hn hW, hmi, ↓pv_W Q, ↓pv_R Q, ↓pv_B Q, ↓tb52, p_W Q, p_R Q, ↓tz_R hs, ↓tz_M hs, ↓tz_K hs, ↓btP e1, ↓e9]
  · rw [if_neg c1]
    exact ⟨s, by simp (disch := omega) only [↓reduceIte, Bool.false_eq_true, nrm_i, ltT, ltF, leT, leF, eqT, eqF, not_true_eq_false, not_false_eq_true, and_self, and_true, true_and, false_and, and_false, or_true, true_or, or_false, false_or, ↓btS, ↓bnS, ↓bdS, ↓jnS, ↓obS, n_W hX hW, n_R hW, n_H hX hW, n_U hW, n_L hW, n_B hW, n_S hW, n_M hX, n_Ms hX, n_P, ↓ti_t, ↓ti_f, ↓tman_t hX hs, ↓tman_f hX hs, ↓troom_t hX hs, ↓troom_f hX hs, ↓tmir_t hX hs, ↓tmir_f hX hs, ↓tpas_t hn hW, ↓tpas_f hn hW, hmi, ↓pv_W Q, ↓pv_R Q, ↓pv_B Q, ↓tb52, p_W Q, p_R Q, ↓tz_R hs, ↓tz_M hs, ↓tz_K hs, c1], chg.rf _ _ _⟩
end
