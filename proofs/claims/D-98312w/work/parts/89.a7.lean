set_option maxRecDepth 100000
set_option maxHeartbeats 1000000
/-! ===== PURE: the component reads its tokens ===== -/
section
variable {σ τ : Hp} {o r : Nat} {n : Int} {b : Int → Int} {β : Type}
theorem adw_P (hO : Osh σ o r) (P : TpC σ o n b) (c k f t w : Int) : TpC (adw σ o c k f t w) o n b ∧ ci (adw σ o c k f t w) (o + 2) 7 = c + 1 := by
  obtain ⟨g2, q2, -⟩ := o_s2 hO
  have e : ci (adw σ o c k f t w) (o + 2) = fu (ci σ (o + 2)) 7 (c + 1) := by
    unfold adw
    rw [wr_ci (a := o + 2) (h := by rw [wr_shp, wr_shp, wr_shp, wr_shp]; exact q2), wr_cne (b := o + 2) _ _ _ (by omega), wr_cne (b := o + 2) _ _ _ (by omega), wr_cne (b := o + 2) _ _ _ (by omega), wr_cne (b := o + 2) _ _ _ (by omega)]
  refine ⟨⟨by rw [e, fuN _ _ (by decide)]; exact P.1, fun i i0 i1 => ?_⟩, by rw [e, fuE]⟩
  rw [(adw_c σ o c k f t w).num (a := o + 4) (by unfold tkS; omega)]
  exact P.2 i i0 i1
theorem tk_st {x : Nat} (h : tkS o x) : stS o x := by unfold tkS at h; unfold stS; omega
theorem lex_go (hb : WfB n b) : ∀ (m fl : Nat) (σ : Hp) (x : Int) (c : Nat), (n - x).toNat ≤ m → m + 2 < fl → 0 ≤ x → x ≤ n → Osh σ o r → TpC σ o n b → Lit σ o → ci σ (o + 2) 7 = c → TkC σ o n b c → (c : Int) ≤ x → (∀ i : Nat, i < c → tps n b i < n ∧ ¬ tkK n b (tps n b i) = 3) → tps n b c = nE n b x →
    ∃ (σ' : Hp) (c' : Nat), f_X2_read_L9 (o + 2) fl σ x 1 (fun s46 x1 x2 => (if nrm x2 = 0 then (some ((), s46)) else ((rcv s46 2 (some (o + 2))).bind fun b48 => bn (f_X2_add s46 b48 4 x1 x1 0) fun _ s47 => some ((), s47)))) = some ((), σ') ∧ chgH (tkS o) σ σ' ∧ TpC σ' o n b ∧ TkC σ' o n b c' ∧ (1 ≤ c' ∧ c' ≤ 2001) ∧ (tps n b (c' - 1) = n ∨ tkK n b (tps n b (c' - 1)) = 3) ∧ ∀ i : Nat, i + 1 < c' → tps n b i < n ∧ ¬ tkK n b (tps n b i) = 3 := by
  have hn := hb.1
  have last : ∀ (fl : Nat) (σ : Hp) (x : Int) (c : Nat), 0 < fl → x = n → Osh σ o r → TpC σ o n b → ci σ (o + 2) 7 = c → TkC σ o n b c → (c : Int) ≤ x → (∀ i : Nat, i < c → tps n b i < n ∧ ¬ tkK n b (tps n b i) = 3) → tps n b c = nE n b x →
    ∃ (σ' : Hp) (c' : Nat), f_X2_read_L9 (o + 2) fl σ x 1 (fun s46 x1 x2 => (if nrm x2 = 0 then (some ((), s46)) else ((rcv s46 2 (some (o + 2))).bind fun b48 => bn (f_X2_add s46 b48 4 x1 x1 0) fun _ s47 => some ((), s47)))) = some ((), σ') ∧ chgH (tkS o) σ σ' ∧ TpC σ' o n b ∧ TkC σ' o n b c' ∧ (1 ≤ c' ∧ c' ≤ 2001) ∧ (tps n b (c' - 1) = n ∨ tkK n b (tps n b (c' - 1)) = 3) ∧ ∀ i : Nat, i + 1 < c' → tps n b i < n ∧ ¬ tkK n b (tps n b i) = 3 := by
    intro fl σ x c hf ex hO P hc hT hcx hl hp
    obtain ⟨fl, rfl⟩ : ∃ q, fl = q + 1 := ⟨fl - 1, by omega⟩
    have ep : tps n b c = n := by rw [hp, ex, nE_0 (spc_n (Int.le_refl _))]
    refine ⟨adw σ o c 4 n n 0, c + 1, ?_, adw_c _ _ _ _ _ _ _, (adw_P hO P _ _ _ _ _).1, adw_T hO hT ep.symm ?_ (fun h => absurd h (by omega)) ?_ (fun _ _ h => absurd h (by omega)), by omega, Or.inl ep, fun i hi => hl i (by omega)⟩
    · rw [f_X2_read_L9, o_a2 hO, P.1, nrm_i (z := n) (by omega) (by omega), nrm_i (z := x) (by omega) (by omega), if_pos (by omega), if_neg (by decide), o_r2 hO, ex, h_add hO hc (by omega) (by omega) (by decide) (by decide) hn.1 hn.2 hn.1 hn.2 (by decide) (by decide)]
    · have : tkK n b n = 0 := by unfold tkK; rw [if_pos (Int.le_refl _)]
      rw [this]; rfl
    · have : tkK n b n = 0 := by unfold tkK; rw [if_pos (Int.le_refl _)]
      rw [this]; intro h; omega
  intro m
  induction m with
  | zero =>
    intro fl σ x c hm hf x0 x1 hO P hL hc hT hcx hl hp
    exact last fl σ x c (by omega) (by omega) hO P hc hT hcx hl hp
  | succ m ih =>
    intro fl σ x c hm hf x0 x1 hO P hL hc hT hcx hl hp
    by_cases ex : x = n
    · exact last fl σ x c (by omega) ex hO P hc hT hcx hl hp
    obtain ⟨fl, rfl⟩ : ∃ q, fl = q + 1 := ⟨fl - 1, by omega⟩
    have hv := hb.2 x x0 (by omega)
    have hu : ub n b x = if b x < 0 then b x + 256 else b x := by unfold ub; rw [if_neg (by omega)]
    rw [f_X2_read_L9, o_a2 hO, P.1, nrm_i (z := n) (by omega) (by omega), nrm_i (z := x) (by omega) (by omega), if_neg (by omega), if_neg (by decide), o_t2 hO, o_a4 hO x0 (by omega), P.2 x x0 (by omega), nrm_i (z := b x) (by omega) (by omega), show nrm 9 = 9 by decide, show nrm 10 = 10 by decide, show nrm 13 = 13 by decide, show nrm 32 = 32 by decide]
    by_cases hsp : spc n b x = true
    · have hs2 := hsp
      unfold spc at hs2
      have hs3 := (of_decide_eq_true hs2).2
      rw [hu] at hs3
      obtain ⟨s', c', e', r'⟩ := ih fl σ (x + 1) c (by omega) (by omega) (by omega) (by omega) hO P hL hc hT (by omega) hl (hp.trans (nE_s hsp).symm)
      refine ⟨s', c', ?_, r'⟩
      by_cases q1 : b x = 32
      · rw [if_pos q1]; exact e'
      by_cases q2 : b x = 9
      · rw [if_neg q1, if_pos q2]; exact e'
      by_cases q3 : b x = 10
      · rw [if_neg q1, if_neg q2, if_pos q3]; exact e'
      have q4 : b x = 13 := by split at hs3 <;> omega
      rw [if_neg q1, if_neg q2, if_neg q3, if_neg (fun h => h q4)]; exact e'
    · have hs1 : spc n b x = false := by simpa using hsp
      have hs2 := hs1
      unfold spc at hs2
      have hs3 := of_decide_eq_false hs2
      rw [hu] at hs3
      have ep : x = tps n b c := by rw [hp, nE_0 hs1]
      have hs4 : ¬ b x = 32 ∧ ¬ b x = 9 ∧ ¬ b x = 10 ∧ ¬ b x = 13 := by split at hs3 <;> omega
      have enx : tps n b (c + 1) = nE n b (tkE n b x) := by rw [tps, ← ep, if_pos (by omega)]
      have hE1 := tkE_f (n := n) (b := b) (p := x)
      have hE2 := tkE_n (n := n) (b := b) (p := x) (by omega)
      rw [if_neg hs4.1, if_neg hs4.2.1, if_neg hs4.2.2.1, if_pos hs4.2.2.2, o_r2 hO, h_isL hO P hb x0 (by omega), jnS]
      have fin : ∀ k w : Int, k = cKd (tkK n b x) → (0 ≤ k ∧ k ≤ 5) → (-1 ≤ w ∧ w ≤ 2000) → (20 ≤ tkK n b x → w = tkK n b x - 20) → (ltr n b x = false → dgt n b x = false → w = sgc (ub n b x)) → (k = 5 ↔ tkK n b x = 3) →
        ∃ (σ' : Hp) (c' : Nat), ((rcv σ 2 (some (o + 2))).bind fun b10 => bn (f_X2_add σ b10 k x (tkE n b x) w) fun _ s9 => (if nrm k = nrm 5 then (f_X2_read_L9 (o + 2) fl s9 (tkE n b x) 0 (fun s46 x1 x2 => (if nrm x2 = 0 then (some ((), s46)) else ((rcv s46 2 (some (o + 2))).bind fun b48 => bn (f_X2_add s46 b48 4 x1 x1 0) fun _ s47 => some ((), s47))))) else (f_X2_read_L9 (o + 2) fl s9 (tkE n b x) 1 (fun s46 x1 x2 => (if nrm x2 = 0 then (some ((), s46)) else ((rcv s46 2 (some (o + 2))).bind fun b48 => bn (f_X2_add s46 b48 4 x1 x1 0) fun _ s47 => some ((), s47))))))) = some ((), σ') ∧ chgH (tkS o) σ σ' ∧ TpC σ' o n b ∧ TkC σ' o n b c' ∧ (1 ≤ c' ∧ c' ≤ 2001) ∧ (tps n b (c' - 1) = n ∨ tkK n b (tps n b (c' - 1)) = 3) ∧ ∀ i : Nat, i + 1 < c' → tps n b i < n ∧ ¬ tkK n b (tps n b i) = 3 := by
        intro k w hk hk2 hw hw2 hg h5
        have d := adw_c σ o c k x (tkE n b x) w
        have T1 := adw_T hO hT ep hk (fun _ => rfl) hw2 (fun h1 h2 _ => hg h1 h2) (t := tkE n b x) (w := w)
        have P1 := adw_P hO P c k x (tkE n b x) w
        rw [o_r2 hO, h_add hO hc (by omega) (by omega) hk2.1 hk2.2 x0 (by omega) (by omega) (by omega) hw.1 hw.2, nrm_i (z := k) (by omega) (by omega), show nrm 5 = 5 by decide]
        by_cases c5 : k = 5
        · rw [if_pos c5]
          obtain ⟨fl, rfl⟩ : ∃ q, fl = q + 1 := ⟨fl - 1, by omega⟩
          refine ⟨_, c + 1, ?_, d, P1.1, T1, by omega, Or.inr (by show tkK n b (tps n b c) = 3; rw [← ep]; exact h5.mp c5), fun i hi => hl i (by omega)⟩
          rw [f_X2_read_L9, o_a2 (hO.chg d), P1.1.1]
          by_cases q : nrm n ≤ nrm (tkE n b x)
          · rw [if_pos q, if_pos (by decide)]
          · rw [if_neg q, if_pos (by decide), if_pos (by decide)]
        · rw [if_neg c5]
          have hl' : ∀ i : Nat, i < c + 1 → tps n b i < n ∧ ¬ tkK n b (tps n b i) = 3 := fun i hi => by
            by_cases e : i = c
            · rw [e, ← ep]; exact ⟨by omega, fun h => c5 (h5.mpr h)⟩
            · exact hl i (by omega)
          obtain ⟨s', c', e', d', r'⟩ := ih fl (adw σ o c k x (tkE n b x) w) (tkE n b x) (c + 1) (by omega) (by omega) (by omega) hE2 (hO.chg d) P1.1 (hL.chg (d.up fun _ h => tk_st h)) (P1.2.trans (by omega)) T1 (by omega) hl' enx
          exact ⟨s', c', e', d.tr d', r'⟩
      by_cases hLt : ltr n b x = true
      · have eE : tkE n b x = lE n b x := by unfold tkE; rw [if_pos hLt]
        have hD : dgt n b x = false := by
          have h2 := hLt
          unfold ltr at h2
          have h3 := of_decide_eq_true h2
          unfold dgt; exact decide_eq_false (by omega)
        have eK : tkK n b x = if lE n b x - x ≤ 7 then (match wix (tkP n b x) with | some w => 20 + (w : Int) | none => 1) else if lE n b x - x ≤ 8 then 1 else 3 := by
          unfold tkK; rw [if_neg (by omega), if_pos hLt]; rfl
        have hl3 := lE_f hLt
        rw [if_pos hLt, if_neg (by decide), h_runL hO P hb x0 x1 hLt, o_r2 hO, h_word hO P hb hL x0 (by omega) hLt, jnS, ← eE]
        rw [← eE] at eK
        by_cases q7 : tkE n b x - x ≤ 7
        · rw [if_pos q7]
          rw [if_pos q7] at eK
          rcases ew : wix (tkP n b x) with _ | w
          · rw [ew] at eK
            dsimp only at eK ⊢
            rw [if_pos (by decide), nrm_i (z := tkE n b x - x) (by omega) (by omega), show nrm 8 = 8 by decide, if_pos (by omega)]
            exact fin 0 (-1) (by rw [eK]; rfl) (by omega) (by omega) (fun h => by omega) (fun h _ => by rw [hLt] at h; exact absurd h (by decide)) ⟨fun h => by omega, fun h => by omega⟩
          · have hw := (fnd_s ew).1
            rw [ew] at eK
            dsimp only at eK ⊢
            have eK : tkK n b x = 20 + (w : Int) := eK
            rw [nrm_i (z := (w : Int)) (by omega) (by omega), if_neg (by omega)]
            exact fin 3 w (by unfold cKd; rw [if_neg (by omega), if_neg (by omega), if_neg (by omega), if_neg (by omega), if_pos (by omega)]) (by omega) (by omega) (fun h => by omega) (fun h _ => by rw [hLt] at h; exact absurd h (by decide)) ⟨fun h => by omega, fun h => by omega⟩
        · rw [if_neg q7]
          rw [if_neg q7] at eK
          rw [if_pos (by decide), nrm_i (z := tkE n b x - x) (by omega) (by omega), show nrm 8 = 8 by decide]
          by_cases q8 : tkE n b x - x ≤ 8
          · rw [if_pos q8]
            rw [if_pos q8] at eK
            exact fin 0 (-1) (by rw [eK]; rfl) (by omega) (by omega) (fun h => by omega) (fun h _ => by rw [hLt] at h; exact absurd h (by decide)) ⟨fun h => by omega, fun h => by omega⟩
          · rw [if_neg q8]
            rw [if_neg q8] at eK
            exact fin 5 (-1) (by rw [eK]; rfl) (by omega) (by omega) (fun h => by omega) (fun h _ => by rw [hLt] at h; exact absurd h (by decide)) ⟨fun h => eK, fun h => rfl⟩
      · have hL0 : ltr n b x = false := by simpa using hLt
        rw [if_neg hLt, if_pos (by decide), o_r2 hO, h_isD hO P hb x0 (by omega)]
        by_cases hD : dgt n b x = true
        · have eE : tkE n b x = dE n b x := by unfold tkE; rw [if_neg hLt, if_pos hD]
          have eK : tkK n b x = if dE n b x - x ≤ 4 then 2 else 3 := by
            unfold tkK; rw [if_neg (by omega), if_neg hLt, if_pos hD]
          rw [if_pos hD, if_neg (by decide), h_runD hO P hb x0 x1 hD, jnS, ← eE, nrm_i (z := tkE n b x - x) (by omega) (by omega), show nrm 4 = 4 by decide]
          rw [← eE] at eK
          by_cases q4 : tkE n b x - x ≤ 4
          · rw [if_pos q4]
            rw [if_pos q4] at eK
            exact fin 1 0 (by rw [eK]; rfl) (by omega) (by omega) (fun h => by omega) (fun _ h => by rw [hD] at h; exact absurd h (by decide)) ⟨fun h => by omega, fun h => by omega⟩
          · rw [if_neg q4]
            rw [if_neg q4] at eK
            exact fin 5 0 (by rw [eK]; rfl) (by omega) (by omega) (fun h => by omega) (fun _ h => by rw [hD] at h; exact absurd h (by decide)) ⟨fun h => eK, fun h => rfl⟩
        · have eE : tkE n b x = x + 1 := by unfold tkE; rw [if_neg hLt, if_neg hD]
          have eK : tkK n b x = sgn (ub n b x) := by
            unfold tkK; rw [if_neg (by omega), if_neg hLt, if_neg hD]
          rw [if_neg hD, if_pos (by decide), o_r2 hO, h_sg hO P hb x0 (by omega), jnS, ← eE]
          have hu2 := ub_in hb (p := x) x0
          have hsg : (sgc (ub n b x) = 0 ∧ tkK n b x = 3) ∨ (¬ sgc (ub n b x) = 0 ∧ (0 ≤ sgc (ub n b x) ∧ sgc (ub n b x) ≤ 61) ∧ 4 ≤ tkK n b x ∧ tkK n b x ≤ 15) := by
            rw [eK]
            unfold sgc sgn
            by_cases c0 : ub n b x = 40 ∨ ub n b x = 41 ∨ ub n b x = 42 ∨ ub n b x = 43 ∨ ub n b x = 45 ∨ ub n b x = 47 ∨ ub n b x = 59 ∨ ub n b x = 60 ∨ ub n b x = 61
            · rw [if_pos c0]
              right
              rcases c0 with c0 | c0 | c0 | c0 | c0 | c0 | c0 | c0 | c0 <;> rw [c0] <;> decide
            · rw [if_neg c0]
              left
              refine ⟨rfl, ?_⟩
              rw [if_neg (by omega), if_neg (by omega), if_neg (by omega), if_neg (by omega), if_neg (by omega), if_neg (by omega), if_neg (by omega), if_neg (by omega), if_neg (by omega)]
          rcases hsg with ⟨g1, g2⟩ | ⟨g1, g2, g3, g4⟩
          · rw [if_neg (by rw [g1]; decide)]
            exact fin 5 _ (by rw [g2]; rfl) (by omega) (by omega) (fun h => by omega) (fun _ _ => rfl) ⟨fun h => g2, fun h => rfl⟩
          · rw [nrm_i (z := sgc (ub n b x)) (by omega) (by omega), if_pos g1]
            exact fin 2 _ (by unfold cKd; rw [if_neg (by omega), if_neg (by omega), if_neg (by omega), if_neg (by omega), if_neg (by omega)]) (by omega) (by omega) (fun h => by omega) (fun _ _ => rfl) ⟨fun h => by omega, fun h => by omega⟩
theorem h_lex (hb : WfB n b) (hO : Osh σ o r) (P : TpC σ o n b) (hL : Lit σ o) : ∃ (σ' : Hp) (c : Nat), f_X2_read σ (o + 2) = some ((), σ') ∧ chgH (tkS o) σ σ' ∧ TpC σ' o n b ∧ TkC σ' o n b c ∧ (1 ≤ c ∧ c ≤ 2001) ∧ (tps n b (c - 1) = n ∨ tkK n b (tps n b (c - 1)) = 3) ∧ ∀ i : Nat, i + 1 < c → tps n b i < n ∧ ¬ tkK n b (tps n b i) = 3 := by
  have hn := hb.1
  obtain ⟨g2, q2, -⟩ := o_s2 hO
  have d0 := (chgH.rf (tkS o) σ).wr (a := o + 2) (by unfold tkS; omega) 7 0
  have e0 : ci (wr σ (o + 2) 7 0) (o + 2) = fu (ci σ (o + 2)) 7 0 := wr_ci (h := q2) ..
  have P0 : TpC (wr σ (o + 2) 7 0) o n b := ⟨by rw [e0, fuN _ _ (by decide)]; exact P.1, fun i i0 i1 => by rw [wr_cne _ _ _ (by omega)]; exact P.2 i i0 i1⟩
  obtain ⟨s', c, e, d, rest⟩ := lex_go (r := r) hb 2000 FU (wr σ (o + 2) 7 0) 0 0 (by omega) (by decide) (by omega) hn.1 (hO.chg d0) P0 (hL.chg (d0.up fun _ h => tk_st h)) (by rw [e0, fuE]; rfl) (fun i hi => absurd hi (Nat.not_lt_zero i)) (by decide) (fun i hi => absurd hi (Nat.not_lt_zero i)) rfl
  refine ⟨s', c, ?_, d0.tr d, rest⟩
  unfold f_X2_read
  rw [o_w2 hO]
  exact e
end
