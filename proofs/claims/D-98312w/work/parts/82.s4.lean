set_option maxRecDepth 100000
set_option maxHeartbeats 4000000
section
variable {s s' : TW} {X : Txt} {K E : Crt} {β : Type}
theorem TQ.chg (Q : TQ s X K) (e : chg qk qf s s') : TQ s' X K := by
  obtain ⟨hX, hs, hn, hW⟩ := Q
  refine ⟨hX, hs.same (e.text (by decide) (by decide)), ?_, hW⟩
  unfold RepN
  rw [e.1 52 (by decide), e.2 53 (by decide), e.1 54 (by decide), e.1 55 (by decide)]
  exact hn
theorem tb_showsRoom (J : TI s X E) {k t x y : Int} (h0 : 0 ≤ k) (h1 : k < xK X) (t0 : 0 ≤ t) (t1 : t ≤ kMi E) (wx : wd x) (y0 : 0 ≤ y) (y1 : y ≤ kMi E) (f : Int → TW → Option β) : bt_ (f_X8_showsRoom s k t x y) f = f (if (decide (shw E k t = y) && decide (kH E k y = x)) = true then 1 else 0) s := by
  have hX := J.1
  have hW := J.2.2.2
  have a2 := hW.1
  refine btP ?_ f
  unfold f_X8_showsRoom
  by_cases d1 : shw E k t = y
  · by_cases d2 : kH E k y = x
    · simp (disch := omega) only [↓reduceIte, Bool.false_eq_true, nrm_i, ltT, ltF, leT, leF, eqT, eqF, not_true_eq_false, not_false_eq_true, and_self, and_true, true_and, false_and, and_false, or_true, true_or, or_false, false_or, ↓btS, ↓bnS, ↓bdS, ↓jnS, ↓obS, n_S hW, n_H hX hW, ↓tb_showsAt J, ↓tb_hungIn J, d1, d2, decide_true, Bool.and_self]
    · simp (disch := omega) only [↓reduceIte, Bool.false_eq_true, nrm_i, ltT, ltF, leT, leF, eqT, eqF, not_true_eq_false, not_false_eq_true, and_self, and_true, true_and, false_and, and_false, or_true, true_or, or_false, false_or, ↓btS, ↓bnS, ↓bdS, ↓jnS, ↓obS, n_S hW, n_H hX hW, ↓tb_showsAt J, ↓tb_hungIn J, d1, d2, decide_true, decide_false, Bool.and_false]
  · simp (disch := omega) only [↓reduceIte, Bool.false_eq_true, nrm_i, ltT, ltF, leT, leF, eqT, eqF, not_true_eq_false, not_false_eq_true, and_self, and_true, true_and, false_and, and_false, or_true, true_or, or_false, false_or, ↓btS, ↓bnS, ↓bdS, ↓jnS, ↓obS, n_S hW, n_H hX hW, ↓tb_showsAt J, d1, decide_false, Bool.false_and]
theorem tb_isSeenIn (J : TI s X E) {k t m : Int} (h0 : 0 ≤ k) (h1 : k < xK X) (t0 : 0 ≤ t) (t1 : t ≤ kMi E) (m0 : 0 ≤ m) (m1 : m < 9) (f : Int → TW → Option β) : bt_ (f_X8_isSeenIn s k t m) f = f (if (mSh X E k t).testBit m.toNat = true then 1 else 0) s := by
  have hX := J.1
  have hm := mSh_lt (K := E) hX k t
  refine btP ?_ f
  unfold f_X8_isSeenIn
  by_cases d : (mSh X E k t).testBit m.toNat = true
  · simp (disch := omega) only [↓reduceIte, Bool.false_eq_true, nrm_i, ltT, ltF, leT, leF, eqT, eqF, not_true_eq_false, not_false_eq_true, and_self, and_true, true_and, false_and, and_false, or_true, true_or, or_false, false_or, ↓btS, ↓bnS, ↓bdS, ↓jnS, ↓obS, ↓tb_showsAt J, ↓tb_menShown J, srb, d]
  · simp (disch := omega) only [↓reduceIte, Bool.false_eq_true, nrm_i, ltT, ltF, leT, leF, eqT, eqF, not_true_eq_false, not_false_eq_true, and_self, and_true, true_and, false_and, and_false, or_true, true_or, or_false, false_or, ↓btS, ↓bnS, ↓bdS, ↓jnS, ↓obS, ↓tb_showsAt J, ↓tb_menShown J, srb, d]
end
theorem itr_or (P : Nat → Bool) (b a : Nat) : ∀ n : Nat, itr (fun i a => if P i = true then a ||| b else a) n a = if anyN P n = true then a ||| b else a := by
  intro n
  induction n with
  | zero => rfl
  | succ n ih =>
    have e : anyN P (n + 1) = (anyN P n || P n) := rfl
    rw [itr, ih, e]
    cases P n <;> cases anyN P n <;> simp [Nat.or_assoc]
theorem fnd_s {P : Nat → Bool} {j : Nat} : ∀ {n s : Nat}, fnd P s n = some j → (s ≤ j ∧ j < s + n) ∧ P j = true ∧ ∀ i : Nat, s ≤ i → i < j → P i = false := by
  intro n
  induction n with
  | zero => intro s h; cases h
  | succ n ih =>
    intro s h
    rw [fnd] at h
    split at h
    · next hp =>
      cases h
      exact ⟨⟨Nat.le_refl _, by omega⟩, hp, fun i h1 h2 => by omega⟩
    · next hp =>
      obtain ⟨h1, h2, h3⟩ := ih h
      refine ⟨by omega, h2, fun i a b => ?_⟩
      by_cases e : i = s
      · rw [e]; simpa using hp
      · exact h3 i (by omega) b
/-- the first of pairs -/
def f2d (P : Nat → Nat → Bool) (N : Nat) (i : Nat) (_ : Unit) : Unit ⊕ (Nat × Nat) := match fnd (fun k => P k i) 0 N with
  | some k => .inr (i, k)
  | none => .inl ()
theorem f2_n {P : Nat → Nat → Bool} {N : Nat} : ∀ {T s : Nat}, itE (f2d P N) s T () = .inl () → ∀ i k : Nat, s ≤ i → i < s + T → k < N → P k i = false := by
  intro T
  induction T with
  | zero => intro s _ i k h1 h2; omega
  | succ T ih =>
    intro s h i k h1 h2 h3
    rw [itE, f2d] at h
    cases hf : fnd (fun k => P k s) 0 N with
    | some v => rw [hf] at h; cases h
    | none =>
      rw [hf] at h
      by_cases e : i = s
      · rw [e]; exact (fnd_n.mp hf) k (Nat.zero_le _) (by omega)
      · exact ih h i k (by omega) (by omega) h3
theorem f2_s {P : Nat → Nat → Bool} {N i k : Nat} : ∀ {T s : Nat}, itE (f2d P N) s T () = .inr (i, k) → (s ≤ i ∧ i < s + T ∧ k < N) ∧ P k i = true ∧ (∀ i' k' : Nat, s ≤ i' → i' < i → k' < N → P k' i' = false) ∧ ∀ k' : Nat, k' < k → P k' i = false := by
  intro T
  induction T with
  | zero => intro s h; cases h
  | succ T ih =>
    intro s h
    rw [itE, f2d] at h
    cases hf : fnd (fun k => P k s) 0 N with
    | some v =>
      rw [hf] at h
      cases h
      obtain ⟨h1, h2, h3⟩ := fnd_s hf
      exact ⟨⟨Nat.le_refl _, by omega, by omega⟩, h2, fun i' k' a b _ => by omega, fun k' hk => h3 k' (Nat.zero_le _) hk⟩
    | none =>
      rw [hf] at h
      obtain ⟨h1, h2, h3, h4⟩ := ih h
      refine ⟨by omega, h2, fun i' k' a b c => ?_, h4⟩
      by_cases e : i' = s
      · rw [e]; exact (fnd_n.mp hf) k' (Nat.zero_le _) (by omega)
      · exact h3 i' k' (by omega) b c
theorem sg_lex (X : Txt) {K : Crt} (hK : 0 ≤ kMi K ∧ kMi K ≤ 299) (x y : Int) : ∀ n : Nat, ((itr (sgG X K x y) n (-2, 300) = (-2, 300)) ∧ ∀ k i : Nat, k < n → i < tEn K → wsP X K x y k i = false) ∨ ∃ k i : Nat, (k < n ∧ i < tEn K) ∧ wsP X K x y k i = true ∧ itr (sgG X K x y) n (-2, 300) = ((k : Int), kMi K + i) ∧ ∀ k' i' : Nat, k' < n → i' < tEn K → wsP X K x y k' i' = true → i < i' ∨ (i = i' ∧ k ≤ k') := by
  intro n
  induction n with
  | zero => exact Or.inl ⟨rfl, fun k i h => by omega⟩
  | succ n ih =>
    have ht : (tEn K : Int) = 300 - kMi K := by unfold tEn; omega
    have e : itr (sgG X K x y) (n + 1) (-2, 300) = sgG X K x y n (itr (sgG X K x y) n (-2, 300)) := rfl
    rw [e]
    cases hf : fnd (wsP X K x y n) 0 (tEn K) with
    | none =>
      have hn := fnd_n.mp hf
      have e2 : sgG X K x y n (itr (sgG X K x y) n (-2, 300)) = itr (sgG X K x y) n (-2, 300) := by unfold sgG; rw [hf]
      rw [e2]
      rcases ih with ⟨g1, g2⟩ | ⟨k, i, g1, g2, g3, g4⟩
      · refine Or.inl ⟨g1, fun k i h1 h2 => ?_⟩
        by_cases c : k = n
        · rw [c]; exact hn i (Nat.zero_le _) (by omega)
        · exact g2 k i (by omega) h2
      · refine Or.inr ⟨k, i, by omega, g2, g3, fun k' i' h1 h2 h3 => ?_⟩
        by_cases c : k' = n
        · rw [c, hn i' (Nat.zero_le _) (by omega)] at h3; cases h3
        · exact g4 k' i' (by omega) h2 h3
    | some j =>
      obtain ⟨j1, j2, j3⟩ := fnd_s hf
      have e2 : sgG X K x y n (itr (sgG X K x y) n (-2, 300)) = if kMi K + j < (itr (sgG X K x y) n (-2, 300)).2 then ((n : Int), kMi K + j) else itr (sgG X K x y) n (-2, 300) := by unfold sgG; rw [hf]
      rw [e2]
      rcases ih with ⟨g1, g2⟩ | ⟨k, i, g1, g2, g3, g4⟩
      · rw [g1, if_pos (by dsimp only; omega)]
        refine Or.inr ⟨n, j, by omega, j2, rfl, fun k' i' h1 h2 h3 => ?_⟩
        by_cases c : k' = n
        · rw [c] at h3
          by_cases d : i' < j
          · rw [j3 i' (Nat.zero_le _) d] at h3; cases h3
          · omega
        · rw [g2 k' i' (by omega) h2] at h3; cases h3
      · rw [g3]
        dsimp only
        by_cases c : j < i
        · rw [if_pos (by omega)]
          refine Or.inr ⟨n, j, by omega, j2, rfl, fun k' i' h1 h2 h3 => ?_⟩
          by_cases c' : k' = n
          · rw [c'] at h3
            by_cases d : i' < j
            · rw [j3 i' (Nat.zero_le _) d] at h3; cases h3
            · omega
          · have := g4 k' i' (by omega) h2 h3
            omega
        · rw [if_neg (by omega)]
          refine Or.inr ⟨k, i, by omega, g2, rfl, fun k' i' h1 h2 h3 => ?_⟩
          by_cases c' : k' = n
          · rw [c'] at h3
            by_cases d : i' < j
            · rw [j3 i' (Nat.zero_le _) d] at h3; cases h3
            · omega
          · exact g4 k' i' (by omega) h2 h3
theorem sg_f2 (X : Txt) {K : Crt} (hK : 0 ≤ kMi K ∧ kMi K ≤ 299) (x y : Int) (N : Nat) : itr (sgG X K x y) N (-2, 300) = match itE (f2d (wsP X K x y) N) 0 (tEn K) () with | .inl _ => (-2, 300) | .inr q => ((q.2 : Int), kMi K + q.1) := by
  cases h : itE (f2d (wsP X K x y) N) 0 (tEn K) () with
  | inl u =>
    have h2 := f2_n h
    rcases sg_lex X hK x y N with g | ⟨k, i, g1, g2, -⟩
    · exact g.1
    · rw [h2 i k (Nat.zero_le _) (by omega) g1.1] at g2; cases g2
  | inr q =>
    obtain ⟨i, k⟩ := q
    obtain ⟨h1, h2, h3, h4⟩ := f2_s h
    rcases sg_lex X hK x y N with g | ⟨k', i', g1, g2, g3, g4⟩
    · rw [g.2 k i h1.2.2 (by omega)] at h2; cases h2
    · rw [g3]
      have l1 := g4 k i h1.2.2 (by omega) h2
      have l2 : ¬ i' < i := fun c => by rw [h3 i' k' (Nat.zero_le _) c g1.1] at g2; cases g2
      have e1 : i' = i := by omega
      subst e1
      have l3 : ¬ k' < k := fun c => by rw [h4 k' c] at g2; cases g2
      have e2 : k' = k := by omega
      rw [e2]
