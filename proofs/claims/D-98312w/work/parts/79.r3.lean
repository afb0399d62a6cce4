set_option maxRecDepth 100000
set_option maxHeartbeats 4000000
/-! ===== PURE: what a mirror showed ===== -/
def shG (K : Crt) (k : Int) (u : Nat) (a : (Int → Int) × Int × Int) : (Int → Int) × Int × Int := if shw K k u < 0 then a else (fu a.1 (shw K k u) (a.1 (shw K k u) + 1), if shw K k u < a.2.1 then shw K k u else a.2.1, if a.2.2 < shw K k u then shw K k u else a.2.2)
def shT (K : Crt) (k : Int) (n : Nat) : (Int → Int) × Int × Int := itr (shG K k) n (fun _ => 0, 300, -1)
def shC (z : Int) (f : Int → Int) (lo : Int) (j : Nat) (n : Int) : Int := n + if (if z = 0 then 1 < f (lo + j) else f (lo + j) = 0) then 1 else 0
def q_shown (X : Txt) (K : Crt) (x z : Int) : Int := if 0 ≤ x ∧ x < xK X then itr (shC z (shT K x (kMi K + 1).toNat).1 (shT K x (kMi K + 1).toNat).2.1) ((shT K x (kMi K + 1).toNat).2.2 + 1 - (shT K x (kMi K + 1).toNat).2.1).toNat 0 else -1
theorem sh_P {X : Txt} {K : Crt} (hW : WfK X K) {k : Int} (h0 : 0 ≤ k) (h1 : k < xK X) : ∀ n : Nat, (n : Int) ≤ kMi K + 1 → (∀ i : Int, 0 ≤ (shT K k n).1 i ∧ (shT K k n).1 i ≤ n) ∧ (0 ≤ (shT K k n).2.1 ∧ (shT K k n).2.1 ≤ 300) ∧ (-1 ≤ (shT K k n).2.2 ∧ (shT K k n).2.2 ≤ kMi K) := by
  have a2 := hW.1
  intro n
  induction n with
  | zero => intro _; exact ⟨fun i => ⟨Int.le_refl _, Int.le_refl _⟩, ⟨show (0 : Int) ≤ 300 by decide, show (300 : Int) ≤ 300 by decide⟩, show (-1 : Int) ≤ -1 by decide, show (-1 : Int) ≤ kMi K by omega⟩
  | succ n ih =>
    intro hn
    have h := ih (by omega)
    have hs := shw_le hW h0 h1 (t := n) (by omega) (by omega)
    have e : shT K k (n + 1) = shG K k n (shT K k n) := rfl
    rw [e]
    unfold shG
    generalize shT K k n = a at h ⊢
    generalize shw K k n = v at hs ⊢
    obtain ⟨h1, h2, h3⟩ := h
    split
    · exact ⟨fun i => ⟨(h1 i).1, by have := (h1 i).2; omega⟩, h2, h3⟩
    · refine ⟨fun i => ?_, ?_, ?_⟩
      · dsimp only
        have := h1 i
        by_cases e : i = v
        · rw [← e, fuE]; omega
        · rw [fuN _ _ e]; omega
      · dsimp only
        split <;> omega
      · dsimp only
        split <;> omega
section
variable {Z : Nat → Prop} {σ : Hp} {o r : Nat} {X : Txt} {K : Crt} {β : Type}
theorem h_sh119 (hO : Osh σ o r) {f : Int → Int} {lo hi z : Int} (hz : z = 0 ∨ z = 1) (hl : 0 ≤ lo ∧ lo ≤ 300) (hh : -1 ≤ hi ∧ hi ≤ 299) (hf : ∀ i : Int, 0 ≤ i → i < 300 → ci σ (o + 253) i = f i) (hb : ∀ i : Int, 0 ≤ f i ∧ f i ≤ 300) :
    f_X0_shown_L119 o FU σ z 0 hi lo (fun s30 x3 => some (nrm x3, s30)) = some (itr (shC z f lo) (hi + 1 - lo).toNat 0, σ) := by
  obtain ⟨e, p⟩ := loopI (fun n (a : Int) i => f_X0_shown_L119 o n σ z a hi i (fun s30 x3 => some (nrm x3, s30))) (fun a => some (nrm a, σ)) (shC z f lo) (fun i a => 0 ≤ a ∧ a ≤ i) (hi + 1 - lo).toNat lo (fl := FU) (a0 := 0) (by rw [FU_eq]; omega) ⟨by decide, by decide⟩ (fun n i a hi' hp => by
        have hbb := hb (lo + i)
        have hg : aI σ 100 (some (o + 253)) (lo + i) = some (f (lo + i)) := by
          obtain ⟨g, hg⟩ := o_s253 hO
          rw [aI_s hg (by omega) (by omega) (by omega), hf _ (by omega) (by omega)]
        rw [f_X0_shown_L119]
        unfold shC
        rcases hz with rfl | rfl
        · by_cases c : 1 < f (lo + i)
          · exact ⟨by simp (disch := omega) only [↓reduceIte, Bool.false_eq_true, nrm_i, ltT, ltF, leT, leF, eqT, eqF, not_true_eq_false, not_false_eq_true, and_self, and_true, true_and, false_and, and_false, or_true, true_or, or_false, false_or, ↓btS, ↓bnS, ↓bdS, ↓jnS, ↓obS, ↓o_g13 hO, ↓obP hg], by simp (disch := omega) only [↓reduceIte, Bool.false_eq_true, nrm_i, ltT, ltF, leT, leF, eqT, eqF, not_true_eq_false, not_false_eq_true, and_self, and_true, true_and, false_and, and_false, or_true, true_or, or_false, false_or, ↓btS, ↓bnS, ↓bdS, ↓jnS, ↓obS] <;> omega⟩
          · exact ⟨by simp (disch := omega) only [↓reduceIte, Bool.false_eq_true, nrm_i, ltT, ltF, leT, leF, eqT, eqF, not_true_eq_false, not_false_eq_true, and_self, and_true, true_and, false_and, and_false, or_true, true_or, or_false, false_or, ↓btS, ↓bnS, ↓bdS, ↓jnS, ↓obS, ↓o_g13 hO, ↓obP hg], by simp (disch := omega) only [↓reduceIte, Bool.false_eq_true, nrm_i, ltT, ltF, leT, leF, eqT, eqF, not_true_eq_false, not_false_eq_true, and_self, and_true, true_and, false_and, and_false, or_true, true_or, or_false, false_or, ↓btS, ↓bnS, ↓bdS, ↓jnS, ↓obS] <;> omega⟩
        · by_cases c : f (lo + i) = 0
          · exact ⟨by simp (disch := omega) only [↓reduceIte, Bool.false_eq_true, nrm_i, ltT, ltF, leT, leF, eqT, eqF, not_true_eq_false, not_false_eq_true, and_self, and_true, true_and, false_and, and_false, or_true, true_or, or_false, false_or, ↓btS, ↓bnS, ↓bdS, ↓jnS, ↓obS, ↓o_g13 hO, ↓obP hg], by simp (disch := omega) only [↓reduceIte, Bool.false_eq_true, nrm_i, ltT, ltF, leT, leF, eqT, eqF, not_true_eq_false, not_false_eq_true, and_self, and_true, true_and, false_and, and_false, or_true, true_or, or_false, false_or, ↓btS, ↓bnS, ↓bdS, ↓jnS, ↓obS] <;> omega⟩
          · exact ⟨by simp (disch := omega) only [↓reduceIte, Bool.false_eq_true, nrm_i, ltT, ltF, leT, leF, eqT, eqF, not_true_eq_false, not_false_eq_true, and_self, and_true, true_and, false_and, and_false, or_true, true_or, or_false, false_or, ↓btS, ↓bnS, ↓bdS, ↓jnS, ↓obS, ↓o_g13 hO, ↓obP hg], by simp (disch := omega) only [↓reduceIte, Bool.false_eq_true, nrm_i, ltT, ltF, leT, leF, eqT, eqF, not_true_eq_false, not_false_eq_true, and_self, and_true, true_and, false_and, and_false, or_true, true_or, or_false, false_or, ↓btS, ↓bnS, ↓bdS, ↓jnS, ↓obS] <;> omega⟩)
      (fun n a hp => by
        rw [f_X0_shown_L119]
        simp (disch := omega) only [↓reduceIte, Bool.false_eq_true, nrm_i, ltT, ltF, leT, leF, eqT, eqF, not_true_eq_false, not_false_eq_true, and_self, and_true, true_and, false_and, and_false, or_true, true_or, or_false, false_or, ↓btS, ↓bnS, ↓bdS, ↓jnS, ↓obS])
  exact e.trans (by rw [nrm_i (by omega) (by omega)])
theorem h_shown (I : QI Z σ o r X K) {x z : Int} (wx : wd x) (hz : z = 0 ∨ z = 1) : ∃ σ' : Hp, f_X0_shown σ o x z = some (q_shown X K x z, σ') ∧ chgQ o σ σ' := by
  obtain ⟨hO, hx, hZ, hK, hX, hW⟩ := I
  have I : QI Z σ o r X K := ⟨hO, hx, hZ, hK, hX, hW⟩
  have J := I.ci
  have hc := hO.court
  have a0 := hX.1
  have a1 := hX.2.2.1
  have a4 := hX.2.2.2.1
  have a2 := hW.1
  unfold f_X0_shown q_shown
  by_cases c1 : 0 ≤ x ∧ x < xK X
  · rw [if_pos c1]
    have hP := sh_P hW c1.1 c1.2
    -- the end
    have fin : ∀ τ : Hp, chgQ o σ τ → (∀ i : Int, 0 ≤ i → i < 300 → ci τ (o + 253) i = (shT K x (kMi K + 1).toNat).1 i) → f_X0_shown_L119 o FU τ z 0 (shT K x (kMi K + 1).toNat).2.2 (shT K x (kMi K + 1).toNat).2.1 (fun s30 x3 => some (nrm x3, s30)) = some (itr (shC z (shT K x (kMi K + 1).toNat).1 (shT K x (kMi K + 1).toNat).2.1) ((shT K x (kMi K + 1).toNat).2.2 + 1 - (shT K x (kMi K + 1).toNat).2.1).toNat 0, τ) := by
      intro τ hq hf
      have hp := hP (kMi K + 1).toNat (by omega)
      exact h_sh119 (I.chg hq).1 hz hp.2.1 ⟨hp.2.2.1, by omega⟩ hf (fun i => ⟨(hp.1 i).1, by have := (hp.1 i).2; omega⟩)
    -- the minutes
    have mid : ∀ τ : Hp, chgQ o σ τ → (∀ i : Int, 0 ≤ i → i < 300 → ci τ (o + 253) i = 0) → ∃ σ' : Hp, f_X0_shown_L48 o FU τ x z 0 300 (-1) 0 (fun s19 x2 x3 x4 x5 => f_X0_shown_L119 o FU s19 x2 x3 x5 x4 (fun s30 x3 => some (nrm x3, s30))) = some (itr (shC z (shT K x (kMi K + 1).toNat).1 (shT K x (kMi K + 1).toNat).2.1) ((shT K x (kMi K + 1).toNat).2.2 + 1 - (shT K x (kMi K + 1).toNat).2.1).toNat 0, σ') ∧ chgQ o σ σ' := by
      intro τ0 hq0 hf0
      refine loop (S := Hp × Int × Int × Int) (fun n q => f_X0_shown_L48 o n q.1 x z 0 q.2.1 q.2.2.1 q.2.2.2 (fun s19 x2 x3 x4 x5 => f_X0_shown_L119 o FU s19 x2 x3 x5 x4 (fun s30 x3 => some (nrm x3, s30)))) (fun w => ∃ σ' : Hp, w = some (itr (shC z (shT K x (kMi K + 1).toNat).1 (shT K x (kMi K + 1).toNat).2.1) ((shT K x (kMi K + 1).toNat).2.2 + 1 - (shT K x (kMi K + 1).toNat).2.1).toNat 0, σ') ∧ chgQ o σ σ')
        (fun i q => (chgQ o σ q.1 ∧ ∀ j : Int, 0 ≤ j → j < 300 → ci q.1 (o + 253) j = (shT K x i).1 j) ∧ q.2 = ((shT K x i).2.1, (shT K x i).2.2, (i : Int))) (kMi K + 1).toNat ?_ ?_ (kMi K + 1).toNat 0 FU (τ0, 300, -1, 0) (by omega) (by rw [FU_eq]; omega) ⟨⟨hq0, hf0⟩, rfl⟩
      · rintro n i ⟨τ, q⟩ hi ⟨⟨hq, hf⟩, rfl⟩
        dsimp only at hq hf ⊢
        have I2 := I.chg hq
        have hO2 := I2.1
        have hc2 := hO2.court
        have J2 := I2.ci
        have hp := hP i (by omega)
        have hs := shw_le hW c1.1 c1.2 (t := i) (by omega) (by omega)
        have nS := n_S hW c1.1 c1.2 (t := i) (by omega) (by omega)
        right
        have e : shT K x (i + 1) = shG K x i (shT K x i) := rfl
        rw [f_X0_shown_L48, e]
        unfold shG
        generalize shT K x i = a at hf hp ⊢
        by_cases c : shw K x i < 0
        · refine ⟨(τ, (a.2.1, a.2.2, ((i + 1 : Nat) : Int))), ?_, ⟨hq, by rw [if_pos c]; exact hf⟩, by rw [if_pos c]⟩
          simp (disch := omega) only [↓reduceIte, Bool.false_eq_true, nrm_i, ltT, ltF, leT, leF, eqT, eqF, not_true_eq_false, not_false_eq_true, and_self, and_true, true_and, false_and, and_false, or_true, true_or, or_false, false_or, ↓btS, ↓bnS, ↓bdS, ↓jnS, ↓obS, nS, ↓o_g7 hO2, ↓cb_mi J2, ↓c_ob hc2, ↓hb_shows J2, c]
          rfl
        · obtain ⟨g, hg⟩ := o_s253 hO2
          have hb := hp.1 (shw K x i)
          have hr : aI τ 100 (some (o + 253)) (shw K x i) = some (a.1 (shw K x i)) := by rw [aI_s hg (by omega) (by omega) (by omega), hf _ (by omega) (by omega)]
          have hw : ∀ v : Int, sI τ 100 (some (o + 253)) (shw K x i) v = some (wr τ (o + 253) (shw K x i) v) := fun v => sI_s hg v (by omega) (by omega) (by omega)
          refine ⟨(wr τ (o + 253) (shw K x i) (a.1 (shw K x i) + 1), (mnI a.2.1 (shw K x i), mxI a.2.2 (shw K x i), ((i + 1 : Nat) : Int))), ?_, ⟨hq.wr (by unfold qS; omega) _ _, ?_⟩, ?_⟩
          · have e1 : nrm (a.1 (shw K x i) + 1) = a.1 (shw K x i) + 1 := nrm_i (by omega) (by omega)
            simp (disch := omega) only [↓reduceIte, Bool.false_eq_true, nrm_i, ltT, ltF, leT, leF, eqT, eqF, not_true_eq_false, not_false_eq_true, and_self, and_true, true_and, false_and, and_false, or_true, true_or, or_false, false_or, ↓btS, ↓bnS, ↓bdS, ↓jnS, ↓obS, nS, ↓o_g7 hO2, ↓cb_mi J2, ↓c_ob hc2, ↓hb_shows J2, c, ↓o_g13 hO2, ↓obP hr, ↓obP (hw _), e1]
            rfl
          · intro j j0 j1
            dsimp only
            rw [if_neg c, wr_ci (h := hg)]
            dsimp only
            by_cases e : j = shw K x i
            · rw [e, fuE, fuE]
            · rw [fuN _ _ e, fuN _ _ e]
              exact hf j j0 j1
          · dsimp only
            rw [if_neg c]
            dsimp only
            unfold mnI mxI
            rw [nS, nrm_i (z := a.2.1) (by omega) (by omega), nrm_i (z := a.2.2) (by omega) (by omega)]
      · rintro n ⟨τ, q⟩ ⟨⟨hq, hf⟩, rfl⟩
        dsimp only at hq hf ⊢
        have I2 := I.chg hq
        have hO2 := I2.1
        have J2 := I2.ci
        refine ⟨τ, ?_, hq⟩
        have f9 := fin τ hq hf
        rw [f_X0_shown_L48]
        simp (disch := omega) only [↓reduceIte, Bool.false_eq_true, nrm_i, ltT, ltF, leT, leF, eqT, eqF, not_true_eq_false, not_false_eq_true, and_self, and_true, true_and, false_and, and_false, or_true, true_or, or_false, false_or, ↓btS, ↓bnS, ↓bdS, ↓jnS, ↓obS, ↓o_g7 hO2, ↓cb_mi J2, ↓f9]
    -- noughts
    have beg : ∃ σ' : Hp, f_X0_shown_L23 o FU σ x z 0 300 (-1) 0 (fun s7 x1 x2 x3 x4 x5 => f_X0_shown_L48 o FU s7 x1 x2 x3 x4 x5 0 (fun s19 x2 x3 x4 x5 => f_X0_shown_L119 o FU s19 x2 x3 x5 x4 (fun s30 x3 => some (nrm x3, s30)))) = some (itr (shC z (shT K x (kMi K + 1).toNat).1 (shT K x (kMi K + 1).toNat).2.1) ((shT K x (kMi K + 1).toNat).2.2 + 1 - (shT K x (kMi K + 1).toNat).2.1).toNat 0, σ') ∧ chgQ o σ σ' := by
      refine loop (S := Hp × Int) (fun n q => f_X0_shown_L23 o n q.1 x z 0 300 (-1) q.2 (fun s7 x1 x2 x3 x4 x5 => f_X0_shown_L48 o FU s7 x1 x2 x3 x4 x5 0 (fun s19 x2 x3 x4 x5 => f_X0_shown_L119 o FU s19 x2 x3 x5 x4 (fun s30 x3 => some (nrm x3, s30))))) (fun w => ∃ σ' : Hp, w = some (itr (shC z (shT K x (kMi K + 1).toNat).1 (shT K x (kMi K + 1).toNat).2.1) ((shT K x (kMi K + 1).toNat).2.2 + 1 - (shT K x (kMi K + 1).toNat).2.1).toNat 0, σ') ∧ chgQ o σ σ')
        (fun i q => (chgQ o σ q.1 ∧ ∀ j : Int, 0 ≤ j → j < i → ci q.1 (o + 253) j = 0) ∧ q.2 = (i : Int)) 300 ?_ ?_ 300 0 FU (σ, 0) rfl (by decide) ⟨⟨chgQ.rf _ _, fun j h h' => by omega⟩, rfl⟩
      · rintro n i ⟨τ, q⟩ hi ⟨⟨hq, hf⟩, rfl⟩
        dsimp only at hq hf ⊢
        have hO2 := (I.chg hq).1
        obtain ⟨g, hg⟩ := o_s253 hO2
        right
        refine ⟨(wr τ (o + 253) i 0, ((i + 1 : Nat) : Int)), ?_, ⟨hq.wr (by unfold qS; omega) _ _, ?_⟩, rfl⟩
        · have hw : sI τ 100 (some (o + 253)) i 0 = some (wr τ (o + 253) i 0) := sI_s hg 0 (by omega) (by omega) (by omega)
          rw [f_X0_shown_L23, nrm_i (z := 300) (by decide) (by decide), nrm_i (by omega) (by omega), if_neg (by omega), o_g13 hO2, obP hw]
          rfl
        · intro j j0 j1
          dsimp only
          rw [wr_ci (h := hg)]
          by_cases e : j = i
          · rw [e, fuE]
          · rw [fuN _ _ e]
            exact hf j j0 (by omega)
      · rintro n ⟨τ, q⟩ ⟨⟨hq, hf⟩, rfl⟩
        dsimp only at hq hf ⊢
        rw [f_X0_shown_L23, if_pos (by decide)]
        exact mid τ hq (fun i i0 i1 => hf i i0 (by omega))
    obtain ⟨σ', e9, q9⟩ := beg
    refine ⟨σ', ?_, q9⟩
    clear hP fin mid
    simp (disch := omega) only [↓reduceIte, Bool.false_eq_true, nrm_i, ltT, ltF, leT, leF, eqT, eqF, not_true_eq_false, not_false_eq_true, and_self, and_true, true_and, false_and, and_false, or_true, true_or, or_false, false_or, ↓btS, ↓bnS, ↓bdS, ↓jnS, ↓obS, ↓i_t, ↓i_f, ↓man_t I, ↓man_f I, ↓room_t I, ↓room_f I, ↓mir_t I, ↓mir_f I, ↓pas_t I, ↓pas_f I, ↓h_men I, ↓h_rooms I, ↓h_mirrors I, ↓o_rcv hO, ↓o_gI hO, ↓o_g3 hO, ↓o_g7 hO, ↓o_g8 hO, ↓o_g12 hO, ↓e9]
  · rw [if_neg c1]
    exact ⟨σ, by simp (disch := omega) only [↓reduceIte, Bool.false_eq_true, nrm_i, ltT, ltF, leT, leF, eqT, eqF, not_true_eq_false, not_false_eq_true, and_self, and_true, true_and, false_and, and_false, or_true, true_or, or_false, false_or, ↓btS, ↓bnS, ↓bdS, ↓jnS, ↓obS, ↓i_t, ↓i_f, ↓man_t I, ↓man_f I, ↓room_t I, ↓room_f I, ↓mir_t I, ↓mir_f I, ↓pas_t I, ↓pas_f I, ↓h_men I, ↓h_rooms I, ↓h_mirrors I, ↓o_rcv hO, ↓o_gI hO, ↓o_g3 hO, ↓o_g7 hO, ↓o_g8 hO, ↓o_g12 hO, c1], chgQ.rf _ _⟩
end
