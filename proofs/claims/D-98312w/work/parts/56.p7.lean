set_option maxRecDepth 100000
/-! ===== PURE: runs, copies (twin) ===== -/
def rn (X : Txt) : Nat → Crt → Crt
  | 0, K => K
  | n + 1, K => rn X n (stp X K)
theorem rn_mi (X : Txt) : ∀ (n : Nat) (K : Crt), kMi (rn X n K) = kMi K + n ∧ kSd (rn X n K) = kSd K := by
  intro n
  induction n with
  | zero => intro K; exact ⟨by show kMi K = _; omega, rfl⟩
  | succ n ih =>
    intro K
    have h1 := ih (stp X K)
    have h2 := stp_mi X K
    rw [rn]
    exact ⟨by rw [h1.1, h2.1]; omega, h1.2.trans h2.2⟩
theorem rn_wf {X : Txt} (hX : WfX X) : ∀ (n : Nat) (K : Crt), WfK X K → kMi K + n ≤ 299 → WfK X (rn X n K) := by
  intro n
  induction n with
  | zero => intro K h _; exact h
  | succ n ih =>
    intro K h hn
    rw [rn]
    exact ih _ (stp_wf hX h (by omega)) (by rw [(stp_mi X K).1]; omega)
section
variable {s : TW} {X : Txt} {K : Crt}
/-- to a minute, the last one at most -/
def tilN (K : Crt) (u : Int) : Nat := (min u 299 - kMi K).toNat
theorem t_goesTill (hX : WfX X) (hs : RepX s X) (hr : RepW s X K) (hK : WfK X K) (hl : s.1 60 = kSd K) {u : Int} (hu0 : -1000 ≤ u) (hu1 : u ≤ 1000) : ∃ s' : TW, f_X8_goesTill s u = some ((), s') ∧ RepW s' X (rn X (tilN K u) K) ∧ chg [49, 50, 56, 58, 59] [51, 57] s s' := by
  unfold f_X8_goesTill
  have key : ∀ (j n : Nat) (s : TW) (K : Crt), RepX s X → RepW s X K → WfK X K → s.1 60 = kSd K → tilN K u = j → j < n → ∃ s' : TW, f_X8_goesTill_L0 n s u (fun s4 => some ((), s4)) = some ((), s') ∧ RepW s' X (rn X j K) ∧ chg [49, 50, 56, 58, 59] [51, 57] s s' := by
    intro j
    induction j with
    | zero =>
      intro n s K hs hr hK hl hj hn
      obtain ⟨n, rfl⟩ : ∃ q, n = q + 1 := ⟨n - 1, by omega⟩
      have a2 := hK.1
      have hmi : s.1 57 = kMi K := hr.1
      unfold tilN at hj
      refine ⟨s, ?_, hr, chg.rf _ _ _⟩
      rw [f_X8_goesTill_L0, hmi, nrm_i (z := u) (by omega) (by omega), nrm_i (z := kMi K) (by omega) (by omega), nrm_i (z := 299) (by decide) (by decide)]
      by_cases q : u ≤ kMi K
      · rw [if_pos q]
      · rw [if_neg q, if_pos (by omega)]
    | succ j ih =>
      intro n s K hs hr hK hl hj hn
      obtain ⟨n, rfl⟩ : ∃ q, n = q + 1 := ⟨n - 1, by omega⟩
      have a2 := hK.1
      have hmi : s.1 57 = kMi K := hr.1
      have hj2 := hj
      unfold tilN at hj2
      obtain ⟨s1, e1, r1, c1⟩ := t_minuteGoes hX hs hr hK hl (by omega)
      have hm := stp_mi X K
      obtain ⟨s2, e2, r2, c2⟩ := ih n s1 (stp X K) (hs.same (c1.text (by decide) (by decide))) r1 (stp_wf hX hK (by omega)) ((c1.2 60 (by decide)).trans (hl.trans hm.2.symm)) (by unfold tilN; rw [hm.1]; omega) (by omega)
      refine ⟨s2, ?_, r2, c1.tr c2⟩
      rw [f_X8_goesTill_L0, hmi, nrm_i (z := u) (by omega) (by omega), nrm_i (z := kMi K) (by omega) (by omega), nrm_i (z := 299) (by decide) (by decide), if_neg (by omega), if_neg (by omega), e1, btS, e2]
  exact key _ _ s K hs hr hK hl rfl (by have := hK.1; unfold tilN; rw [FU_eq]; omega)
theorem t_copies (hX : WfX X) (hs : RepX s X) (hn : RepN s X K) (hK : WfK X K) : ∃ s' : TW, f_X8_copies s = some ((), s') ∧ RepW s' X K ∧ s'.1 60 = xS X ∧ chg [56, 58, 59] [57, 60] s s' := by
  have a1 := hX.2.2.1
  have a4 := hX.2.2.2.1
  have a3 := hs.1
  have a2 := hK.1
  have hmi : s.1 53 = kMi K := hn.1
  unfold f_X8_copies
  refine loop (S := TW × Int) (fun n q => f_X8_copies_L2 n q.1 q.2 (fun s4 => bd (tp s4 57 (s4.1 53)) fun s5 => f_X8_copies_L44 FU s5 0 (fun s11 => (ta s11 35 (s11.1 18)).bind fun v12 => bd (tp s11 60 v12) fun s13 => some ((), s13)))) (fun o => ∃ s' : TW, o = some ((), s') ∧ RepW s' X K ∧ s'.1 60 = xS X ∧ chg [56, 58, 59] [57, 60] s s')
    (fun i q => q.2 = (i : Int) ∧ chg [56] [] s q.1 ∧ ∀ j : Int, 0 ≤ j → j < i → q.1.2 56 j = s.2 52 j) (36 * kMi K + 36).toNat ?_ ?_ (36 * kMi K + 36).toNat 0 FU (s, 0) (by omega) (by rw [FU_eq]; omega) ⟨rfl, chg.rf _ _ _, fun _ _ h => by omega⟩
  · rintro n i ⟨q, b⟩ hi ⟨rfl, hc, h1⟩
    dsimp only at hc h1 ⊢
    right
    refine ⟨(tst q 56 i (s.2 52 i), ((i + 1 : Nat) : Int)), ?_, rfl, hc.ts (by decide) _ _, ?_⟩
    · rw [f_X8_copies_L2, (hc.2 53 (by decide)).trans hmi, nrm_i (by omega) (by omega), nrm_i (by omega) (by omega), if_neg (by omega), ta52 (by omega) (by omega), obS, ts56 (by omega) (by omega), obS, hc.1 52 (by decide)]
      rfl
    · intro j j0 j1
      show (tst q 56 i _).2 56 j = _
      rw [tst_eq]
      by_cases e : j = i
      · rw [e, fuE]
      · rw [fuN _ _ e]
        exact h1 j j0 (by omega)
  · rintro n ⟨q, b⟩ ⟨rfl, hc, h1⟩
    dsimp only at hc h1 ⊢
    rw [f_X8_copies_L2, (hc.2 53 (by decide)).trans hmi, nrm_i (by omega) (by omega), nrm_i (by omega) (by omega), if_pos (by omega), bdS]
    refine loop (S := TW × Int) (fun n z => f_X8_copies_L44 n z.1 z.2 (fun s11 => (ta s11 35 (s11.1 18)).bind fun v12 => bd (tp s11 60 v12) fun s13 => some ((), s13))) (fun o => ∃ s' : TW, o = some ((), s') ∧ RepW s' X K ∧ s'.1 60 = xS X ∧ chg [56, 58, 59] [57, 60] s s')
      (fun i z => z.2 = (i : Int) ∧ chg [58, 59] [] (tp q 57 (kMi K)) z.1 ∧ ∀ j : Int, 0 ≤ j → j < i → z.1.2 58 j = s.2 54 j ∧ z.1.2 59 j = s.2 55 j) 8 ?_ ?_ 8 0 FU (tp q 57 (kMi K), 0) rfl (by decide) ⟨rfl, chg.rf _ _ _, fun _ _ h => by omega⟩
    · rintro n i ⟨z, b⟩ hi ⟨rfl, gc, g1⟩
      dsimp only at gc g1 ⊢
      right
      refine ⟨(tst (tst z 58 i (s.2 54 i)) 59 i (s.2 55 i), ((i + 1 : Nat) : Int)), ?_, rfl, (gc.ts (by decide) _ _).ts (by decide) _ _, ?_⟩
      · have e54 : z.2 54 = s.2 54 := (gc.1 54 (by decide)).trans (hc.1 54 (by decide))
        have e55 : (tst z 58 i (s.2 54 i)).2 55 = s.2 55 := (tst_ne _ _ _ (by decide)).trans ((gc.1 55 (by decide)).trans (hc.1 55 (by decide)))
        rw [f_X8_copies_L44, nrm_i (z := 8) (by decide) (by decide), nrm_i (by omega) (by omega), if_neg (by omega), ta54 (by omega) (by omega), obS, e54, ts58 (by omega) (by omega), obS, ta55 (by omega) (by omega), obS, e55, ts59 (by omega) (by omega), obS]
        rfl
      · intro j j0 j1
        show (tst (tst z 58 i _) 59 i _).2 58 j = _ ∧ (tst (tst z 58 i _) 59 i _).2 59 j = _
        rw [tst_eq, tst_ne _ _ _ (by decide), tst_eq, tst_ne _ _ _ (by decide)]
        by_cases e : j = i
        · rw [e, fuE, fuE]; exact ⟨rfl, rfl⟩
        · rw [fuN _ _ e, fuN _ _ e]
          exact g1 j j0 (by omega)
    · rintro n ⟨z, b⟩ ⟨rfl, gc, g1⟩
      dsimp only at gc g1 ⊢
      have hcz : chg [56, 58, 59] [57, 60] s z := ((hc.up (by decide) (by decide)).tp (by decide) _).tr (gc.up (by decide) (by decide))
      have hsz := hs.same (hcz.text (by decide) (by decide))
      rw [f_X8_copies_L44, if_pos (by decide), ta35 (by have := hsz.1; omega) (by have := hsz.1; omega), obS, hsz.2.1.2.2.2.2.2, bdS]
      refine ⟨_, rfl, ?_, tp_eq _ _ _, hcz.tp (by decide) _⟩
      have e56 : z.2 56 = q.2 56 := gc.1 56 (by decide)
      refine ⟨(tp_ne _ _ (by decide)).trans ((gc.2 57 (by decide)).trans (tp_eq _ _ _)), fun m t b0 b1 b2 b3 => ?_, fun k t b0 b1 b2 b3 => ?_, fun k b0 b1 => ?_⟩
      · show z.2 56 _ = _ ∧ z.2 56 _ = _
        rw [e56, h1 _ (by omega) (by omega), h1 _ (by omega) (by omega)]
        exact hn.2.1 m t b0 b1 b2 b3
      · show z.2 56 _ = _ ∧ z.2 56 _ = _ ∧ (_ → z.2 56 _ = _)
        rw [e56, h1 _ (by omega) (by omega), h1 _ (by omega) (by omega), h1 _ (by omega) (by omega)]
        exact hn.2.2.1 k t b0 b1 b2 b3
      · show z.2 58 k = _ ∧ z.2 59 k = _
        have := g1 k b0 (by omega)
        rw [this.1, this.2]
        exact hn.2.2.2 k b0 b1
theorem t_keepsRows (hX : WfX X) (hr : RepW s X K) (hK : WfK X K) {fr : Int} (hf0 : 0 ≤ fr) (hf1 : fr ≤ kMi K + 1) (hsame : ∀ j : Int, 0 ≤ j → j < 36 * fr → s.2 52 j = s.2 56 j) : ∃ s' : TW, f_X8_keepsRows s fr = some ((), s') ∧ RepN s' X K ∧ (∀ j : Int, 0 ≤ j → j < 36 * kMi K + 36 → s'.2 52 j = s.2 56 j) ∧ (∀ j : Int, 36 * kMi K + 36 ≤ j → s'.2 52 j = s.2 52 j) ∧ chg [52, 54, 55] [53] s s' := by
  have a1 := hX.2.2.1
  have a4 := hX.2.2.2.1
  have a2 := hK.1
  have hmi : s.1 57 = kMi K := hr.1
  unfold f_X8_keepsRows
  refine loop (S := TW × Int) (fun n q => f_X8_keepsRows_L5 n q.1 q.2 (fun s4 => bd (tp s4 53 (s4.1 57)) fun s5 => f_X8_keepsRows_L47 FU s5 0 (fun s11 => some ((), s11)))) (fun o => ∃ s' : TW, o = some ((), s') ∧ RepN s' X K ∧ (∀ j : Int, 0 ≤ j → j < 36 * kMi K + 36 → s'.2 52 j = s.2 56 j) ∧ (∀ j : Int, 36 * kMi K + 36 ≤ j → s'.2 52 j = s.2 52 j) ∧ chg [52, 54, 55] [53] s s')
    (fun i q => q.2 = 36 * fr + i ∧ chg [52] [] s q.1 ∧ (∀ j : Int, 0 ≤ j → j < 36 * fr + i → q.1.2 52 j = s.2 56 j) ∧ (∀ j : Int, 36 * kMi K + 36 ≤ j → q.1.2 52 j = s.2 52 j)) (36 * kMi K + 36 - 36 * fr).toNat ?_ ?_ (36 * kMi K + 36 - 36 * fr).toNat 0 FU (s, 36 * fr) (by omega) (by rw [FU_eq]; omega) ⟨by dsimp only; omega, chg.rf _ _ _, fun j h h' => hsame j h (by omega), fun _ _ => rfl⟩
  · rintro n i ⟨q, b⟩ hi ⟨rfl, hc, h1, h2⟩
    dsimp only at hc h1 h2 ⊢
    right
    refine ⟨(tst q 52 (36 * fr + i) (s.2 56 (36 * fr + i)), 36 * fr + ((i + 1 : Nat) : Int)), ?_, rfl, hc.ts (by decide) _ _, ?_, ?_⟩
    · rw [f_X8_keepsRows_L5, (hc.2 57 (by decide)).trans hmi, nrm_i (by omega) (by omega), nrm_i (by omega) (by omega), if_neg (by omega), ta56 (by omega) (by omega), obS, ts52 (by omega) (by omega), obS, hc.1 56 (by decide)]
      dsimp only
      rw [show 36 * fr + ((i + 1 : Nat) : Int) = 36 * fr + i + 1 by omega]
    · intro j j0 j1
      show (tst q 52 _ _).2 52 j = _
      rw [tst_eq]
      by_cases e : j = 36 * fr + i
      · rw [e, fuE]
      · rw [fuN _ _ e]
        exact h1 j j0 (by omega)
    · intro j j0
      show (tst q 52 _ _).2 52 j = _
      rw [tst_eq, fuN _ _ (by omega)]
      exact h2 j j0
  · rintro n ⟨q, b⟩ ⟨rfl, hc, h1, h2⟩
    dsimp only at hc h1 h2 ⊢
    rw [f_X8_keepsRows_L5, (hc.2 57 (by decide)).trans hmi, nrm_i (by omega) (by omega), nrm_i (by omega) (by omega), if_pos (by omega), bdS]
    refine loop (S := TW × Int) (fun n z => f_X8_keepsRows_L47 n z.1 z.2 (fun s11 => some ((), s11))) (fun o => ∃ s' : TW, o = some ((), s') ∧ RepN s' X K ∧ (∀ j : Int, 0 ≤ j → j < 36 * kMi K + 36 → s'.2 52 j = s.2 56 j) ∧ (∀ j : Int, 36 * kMi K + 36 ≤ j → s'.2 52 j = s.2 52 j) ∧ chg [52, 54, 55] [53] s s')
      (fun i z => z.2 = (i : Int) ∧ chg [54, 55] [] (tp q 53 (kMi K)) z.1 ∧ ∀ j : Int, 0 ≤ j → j < i → z.1.2 54 j = s.2 58 j ∧ z.1.2 55 j = s.2 59 j) 8 ?_ ?_ 8 0 FU (tp q 53 (kMi K), 0) rfl (by decide) ⟨rfl, chg.rf _ _ _, fun _ _ h => by omega⟩
    · rintro n i ⟨z, b⟩ hi ⟨rfl, gc, g1⟩
      dsimp only at gc g1 ⊢
      right
      refine ⟨(tst (tst z 54 i (s.2 58 i)) 55 i (s.2 59 i), ((i + 1 : Nat) : Int)), ?_, rfl, (gc.ts (by decide) _ _).ts (by decide) _ _, ?_⟩
      · have e54 : z.2 58 = s.2 58 := (gc.1 58 (by decide)).trans (hc.1 58 (by decide))
        have e55 : (tst z 54 i (s.2 58 i)).2 59 = s.2 59 := (tst_ne _ _ _ (by decide)).trans ((gc.1 59 (by decide)).trans (hc.1 59 (by decide)))
        rw [f_X8_keepsRows_L47, nrm_i (z := 8) (by decide) (by decide), nrm_i (by omega) (by omega), if_neg (by omega), ta58 (by omega) (by omega), obS, e54, ts54 (by omega) (by omega), obS, ta59 (by omega) (by omega), obS, e55, ts55 (by omega) (by omega), obS]
        rfl
      · intro j j0 j1
        show (tst (tst z 54 i _) 55 i _).2 54 j = _ ∧ (tst (tst z 54 i _) 55 i _).2 55 j = _
        rw [tst_eq, tst_ne _ _ _ (by decide), tst_eq, tst_ne _ _ _ (by decide)]
        by_cases e : j = i
        · rw [e, fuE, fuE]; exact ⟨rfl, rfl⟩
        · rw [fuN _ _ e, fuN _ _ e]
          exact g1 j j0 (by omega)
    · rintro n ⟨z, b⟩ ⟨rfl, gc, g1⟩
      dsimp only at gc g1 ⊢
      have hcz : chg [52, 54, 55] [53] s z := ((hc.up (by decide) (by decide)).tp (by decide) _).tr (gc.up (by decide) (by decide))
      have e52 : z.2 52 = q.2 52 := gc.1 52 (by decide)
      rw [f_X8_keepsRows_L47, if_pos (by decide)]
      refine ⟨_, rfl, ?_, fun j j0 j1 => by rw [e52]; exact h1 j j0 (by omega), fun j j0 => by rw [e52]; exact h2 j j0, hcz⟩
      refine ⟨(gc.2 53 (by decide)).trans (tp_eq _ _ _), fun m t b0 b1 b2 b3 => ?_, fun k t b0 b1 b2 b3 => ?_, fun k b0 b1 => ?_⟩
      · rw [e52, h1 _ (by omega) (by omega), h1 _ (by omega) (by omega)]
        exact hr.2.1 m t b0 b1 b2 b3
      · rw [e52, h1 _ (by omega) (by omega), h1 _ (by omega) (by omega), h1 _ (by omega) (by omega)]
        exact hr.2.2.1 k t b0 b1 b2 b3
      · have := g1 k b0 (by omega)
        rw [this.1, this.2]
        exact hr.2.2.2 k b0 b1
end
