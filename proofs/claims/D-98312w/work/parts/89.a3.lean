set_option maxRecDepth 100000
set_option maxHeartbeats 1000000
/-! ===== PURE: the twin's tokens ===== -/
def tkw (s : TW) (c k p v m : Int) : TW := tp (tst (tst (tst (tst s 5 c k) 6 c p) 7 c v) 8 c m) 10 (c + 1)
def TkT (s : TW) (n : Int) (b : Int → Int) (c : Nat) : Prop := ∀ i : Nat, i < c → s.2 5 i = tkK n b (tps n b i) ∧ s.2 6 i = tps n b i ∧ s.2 7 i = tkN n b (tps n b i) ∧ s.2 8 i = tkP n b (tps n b i)
section
variable {s s' s0 : TW} {n : Int} {b : Int → Int} {β : Type}
theorem t_token {c k p v m : Int} (hc : s.1 10 = c) (h0 : 0 ≤ c) (h1 : c < 403) (wk : wd k) (wp : wd p) (wv : wd v) (f : Unit → TW → Option β) : bt_ (f_X8_token s k p v m) f = f () (tkw s c k p v m) := by
  refine btP ?_ f
  unfold f_X8_token
  rw [hc, nrm_i wk.1 wk.2, ts5 h0 h1, obS, tst_f, hc, nrm_i wp.1 wp.2, ts6 h0 h1, obS, tst_f, tst_f, hc, nrm_i wv.1 wv.2, ts7 h0 h1, obS, tst_f, tst_f, tst_f, hc, ts8 h0 h1, obS, tst_f, tst_f, tst_f, tst_f, hc, nrm_i (by omega) (by omega), bdS]
  rfl
theorem tkw_c (s : TW) (c k p v m : Int) : chg [5, 6, 7, 8] [10] s (tkw s c k p v m) := (((((chg.rf _ _ s).ts (by decide) _ _).ts (by decide) _ _).ts (by decide) _ _).ts (by decide) _ _).tp (by decide) _
theorem tkw_T {c : Nat} (h : TkT s n b c) {k p v m : Int} (hp : p = tps n b c) (hk : k = tkK n b p) (hv : v = tkN n b p) (hm : m = tkP n b p) : TkT (tkw s c k p v m) n b (c + 1) := by
  intro i hi
  show fu (s.2 5) c k i = _ ∧ fu (s.2 6) c p i = _ ∧ fu (s.2 7) c v i = _ ∧ fu (s.2 8) c m i = _
  by_cases e : i = c
  · subst e
    rw [fuE, fuE, fuE, fuE, ← hp]
    exact ⟨hk, rfl, hv, hm⟩
  · have e2 : (i : Int) ≠ c := by omega
    rw [fuN _ _ e2, fuN _ _ e2, fuN _ _ e2, fuN _ _ e2]
    exact h i (by omega)
theorem sgn_in (c : Int) : wd (sgn c) := by
  unfold sgn wd
  split
  · omega
  split
  · omega
  split
  · omega
  split
  · omega
  split
  · omega
  split
  · omega
  split
  · omega
  split
  · omega
  split
  · omega
  · omega
theorem t_sign {c : Int} (hc : s.1 10 = c) (h0 : 0 ≤ c) (h1 : c < 403) {p u : Int} (wp : wd p) (u0 : 0 ≤ u) (u1 : u ≤ 255) (w : Int) (f : Int → TW → Option β) : bt_ (f_X8_sign s p u w) f = f 1 (tkw s c (sgn u) p 0 0) := by
  refine btP ?_ f
  have w0 : wd 0 := by unfold wd; omega
  have t : ∀ k : Int, k = sgn u → bt_ (f_X8_token s k p 0 0) (fun _ s7 => some ((1 : Int), s7)) = some (1, tkw s c (sgn u) p 0 0) := fun k hk => by rw [hk, t_token hc h0 h1 (sgn_in u) wp w0]
  unfold f_X8_sign
  simp only [jnS, nrm_i (z := u) (by omega) (by omega), show nrm 59 = 59 by decide, show nrm 61 = 61 by decide, show nrm 40 = 40 by decide, show nrm 41 = 41 by decide, show nrm 43 = 43 by decide, show nrm 45 = 45 by decide, show nrm 42 = 42 by decide, show nrm 47 = 47 by decide, show nrm 60 = 60 by decide]
  by_cases c1 : u = 59
  · rw [if_neg (fun h => h c1), if_pos (by omega), if_pos (by omega), if_pos (by omega), if_pos (by omega), if_pos (by omega)]
    exact t _ (by unfold sgn; rw [if_pos c1])
  by_cases c2 : u = 61
  · rw [if_pos c1, if_neg (fun h => h c2), if_pos (by omega), if_pos (by omega), if_pos (by omega), if_pos (by omega), if_pos (by omega)]
    exact t _ (by unfold sgn; rw [if_neg c1, if_pos c2])
  by_cases c3 : u = 40
  · rw [if_pos c1, if_pos c2, if_neg (fun h => h c3), if_pos (by omega), if_pos (by omega), if_pos (by omega), if_pos (by omega), if_pos (by omega)]
    exact t _ (by unfold sgn; rw [if_neg c1, if_neg c2, if_pos c3])
  by_cases c4 : u = 41
  · rw [if_pos c1, if_pos c2, if_pos c3, if_neg (fun h => h c4), if_pos (by omega), if_pos (by omega), if_pos (by omega), if_pos (by omega), if_pos (by omega)]
    exact t _ (by unfold sgn; rw [if_neg c1, if_neg c2, if_neg c3, if_pos c4])
  rw [if_pos c1, if_pos c2, if_pos c3, if_pos c4]
  by_cases c5 : u = 43
  · rw [if_neg (fun h => h c5), if_pos (by omega), if_pos (by omega), if_pos (by omega), if_pos (by omega)]
    exact t _ (by unfold sgn; rw [if_neg c1, if_neg c2, if_neg c3, if_neg c4, if_pos c5])
  rw [if_pos c5]
  by_cases c6 : u = 45
  · rw [if_neg (fun h => h c6), if_pos (by omega), if_pos (by omega), if_pos (by omega)]
    exact t _ (by unfold sgn; rw [if_neg c1, if_neg c2, if_neg c3, if_neg c4, if_neg c5, if_pos c6])
  rw [if_pos c6]
  by_cases c7 : u = 42
  · rw [if_neg (fun h => h c7), if_pos (by omega), if_pos (by omega)]
    exact t _ (by unfold sgn; rw [if_neg c1, if_neg c2, if_neg c3, if_neg c4, if_neg c5, if_neg c6, if_pos c7])
  rw [if_pos c7]
  by_cases c8 : u = 47
  · rw [if_neg (fun h => h c8), if_pos (by omega)]
    exact t _ (by unfold sgn; rw [if_neg c1, if_neg c2, if_neg c3, if_neg c4, if_neg c5, if_neg c6, if_neg c7, if_pos c8])
  rw [if_pos c8]
  by_cases c9 : u = 60
  · rw [if_neg (fun h => h c9)]
    exact t _ (by unfold sgn; rw [if_neg c1, if_neg c2, if_neg c3, if_neg c4, if_neg c5, if_neg c6, if_neg c7, if_neg c8, if_pos c9])
  rw [if_pos c9]
  exact t _ (by unfold sgn; rw [if_neg c1, if_neg c2, if_neg c3, if_neg c4, if_neg c5, if_neg c6, if_neg c7, if_neg c8, if_neg c9])
theorem p27 : ∀ k : Nat, k ≤ 8 → (27 : Int) ^ k ≤ 282429536481 := by
  have : ∀ k ∈ List.range 9, (27 : Int) ^ k ≤ 282429536481 := by decide
  exact fun k h => this k (List.mem_range.mpr (by omega))
theorem p10 : ∀ k : Nat, k ≤ 4 → (10 : Int) ^ k ≤ 10000 := by
  have : ∀ k ∈ List.range 5, (10 : Int) ^ k ≤ 10000 := by decide
  exact fun k h => this k (List.mem_range.mpr (by omega))
theorem cut_go (hb : WfB n b) (hB : Bt s0 n b) (hK : Kw s0) : ∀ (m fl : Nat) (s : TW) (x : Int) (c : Nat), (n - x).toNat ≤ m → m + 1 < fl → 0 ≤ x → x ≤ n → chg [5, 6, 7, 8] [10] s0 s → s.1 10 = c → TkT s n b c → c ≤ 401 → (∀ i : Nat, i < c → tps n b i < n) → tps n b c = nE n b x →
    ∃ (s' : TW) (c' : Nat), f_X8_cut_L7 fl s x (fun s53 => some ((), s53)) = some ((), s') ∧ chg [5, 6, 7, 8] [10] s0 s' ∧ TkT s' n b c' ∧ c' ≤ 401 ∧ (c' = 401 ∨ (1 ≤ c' ∧ tps n b (c' - 1) = n)) ∧ ∀ i : Nat, i + 1 < c' → tps n b i < n := by
  have hn := hb.1
  have w0 : wd 0 := by unfold wd; omega
  intro m
  induction m with
  | zero =>
    intro fl s x c hm hf x0 x1 hC hc hT hc1 hl hp
    obtain ⟨fl, rfl⟩ : ∃ q, fl = q + 1 := ⟨fl - 1, by omega⟩
    have ex : x = n := by omega
    rw [f_X8_cut_L7, hc, nrm_i (z := 400) (by decide) (by decide), nrm_i (z := (c : Int)) (by omega) (by omega)]
    by_cases d : 400 < (c : Int)
    · rw [if_pos d]
      exact ⟨s, c, rfl, hC, hT, hc1, Or.inl (by omega), fun i hi => hl i (by omega)⟩
    · have hB2 := hB.chg hC (by decide) (by decide)
      have ep : tps n b c = n := by rw [hp, ex, nE_0 (spc_n (Int.le_refl _))]
      rw [if_neg d, t_byte hB2 hb x0 (by omega), hB2.1, nrm_i (z := x) (by omega) (by omega), nrm_i (z := n) (by omega) (by omega), if_neg (by omega), t_token hc (by omega) (by omega) w0 (by unfold wd; omega) w0]
      refine ⟨_, c + 1, rfl, hC.tr (tkw_c _ _ _ _ _ _), tkw_T hT ep.symm ?_ ?_ ?_, by omega, Or.inr ⟨by omega, ep⟩, fun i hi => hl i (by omega)⟩
      · unfold tkK; rw [if_pos (Int.le_refl _)]
      · unfold tkN; rw [dgt_n (Int.le_refl _)]; rfl
      · unfold tkP; rw [ltr_n (Int.le_refl _)]; rfl
  | succ m ih =>
    intro fl s x c hm hf x0 x1 hC hc hT hc1 hl hp
    by_cases ex : x = n
    · exact ih fl s x c (by omega) (by omega) x0 x1 hC hc hT hc1 hl hp
    obtain ⟨fl, rfl⟩ : ∃ q, fl = q + 1 := ⟨fl - 1, by omega⟩
    rw [f_X8_cut_L7, hc, nrm_i (z := 400) (by decide) (by decide), nrm_i (z := (c : Int)) (by omega) (by omega)]
    by_cases d : 400 < (c : Int)
    · rw [if_pos d]
      exact ⟨s, c, rfl, hC, hT, hc1, Or.inl (by omega), fun i hi => hl i (by omega)⟩
    · have hB2 := hB.chg hC (by decide) (by decide)
      have hK2 := hK.chg hC (by decide)
      have hu := ub_in hb (p := x) x0
      rw [if_neg d, t_byte hB2 hb x0 (by omega), hB2.1, nrm_i (z := x) (by omega) (by omega), nrm_i (z := n) (by omega) (by omega), if_pos (by omega), nrm_i (z := ub n b x) (by omega) (by omega), show nrm 9 = 9 by decide, show nrm 10 = 10 by decide, show nrm 13 = 13 by decide, show nrm 32 = 32 by decide]
      by_cases hsp : spc n b x = true
      · have hs2 := hsp
        unfold spc at hs2
        have hs3 := (of_decide_eq_true hs2).2
        obtain ⟨s', c', e', r'⟩ := ih fl s (x + 1) c (by omega) (by omega) (by omega) (by omega) hC hc hT hc1 hl (hp.trans (nE_s hsp).symm)
        refine ⟨s', c', ?_, r'⟩
        by_cases q1 : ub n b x = 9
        · rw [if_pos q1]; exact e'
        by_cases q2 : ub n b x = 10
        · rw [if_neg q1, if_pos q2]; exact e'
        by_cases q3 : ub n b x = 13
        · rw [if_neg q1, if_neg q2, if_pos q3]; exact e'
        rw [if_neg q1, if_neg q2, if_neg q3, if_neg (by omega)]; exact e'
      · have hs1 : spc n b x = false := by simpa using hsp
        have hs2 := hs1
        unfold spc at hs2
        have hs3 := of_decide_eq_false hs2
        have ep : x = tps n b c := by rw [hp, nE_0 hs1]
        rw [if_neg (by omega), if_neg (by omega), if_neg (by omega), if_pos (by omega), t_isL hu.1 hu.2]
        have enx : tps n b (c + 1) = nE n b (tkE n b x) := by rw [tps, ← ep, if_pos (by omega)]
        have hE1 := tkE_f (n := n) (b := b) (p := x)
        have hE2 := tkE_n (n := n) (b := b) (p := x) (by omega)
        have fin : ∀ k v w : Int, k = tkK n b x → v = tkN n b x → w = tkP n b x → ∃ (s' : TW) (c' : Nat), f_X8_cut_L7 fl (tkw s c k x v w) (tkE n b x) (fun s53 => some ((), s53)) = some ((), s') ∧ chg [5, 6, 7, 8] [10] s0 s' ∧ TkT s' n b c' ∧ c' ≤ 401 ∧ (c' = 401 ∨ (1 ≤ c' ∧ tps n b (c' - 1) = n)) ∧ ∀ i : Nat, i + 1 < c' → tps n b i < n := by
          intro k v w hk hv hw
          refine ih fl (tkw s c k x v w) (tkE n b x) (c + 1) (by omega) (by omega) (by omega) hE2 (hC.tr (tkw_c _ _ _ _ _ _)) ?_ (tkw_T hT ep hk hv hw) (by omega) (fun i hi => ?_) enx
          · refine (tp_eq _ _ _).trans ?_
            omega
          · by_cases e : i = c
            · rw [e, ← ep]; omega
            · exact hl i (by omega)
        by_cases hL : ltr n b x = true
        · have hL2 := hL
          unfold ltr at hL2
          have hL3 := of_decide_eq_true hL2
          have hD : dgt n b x = false := by unfold dgt; simp; omega
          have hl1 := lE_in (n := n) (b := b) (p := x)
          have hl2 := lE_le hb x1
          have hl3 := lE_f hL
          have eE : tkE n b x = lE n b x := by unfold tkE; rw [if_pos hL]
          have eP : tkP n b x = pkN (ub n b) x (min 8 (lE n b x - x).toNat) := by unfold tkP; rw [if_pos hL]
          have eN : tkN n b x = 0 := by unfold tkN; rw [hD]; rfl
          have hpk := pkN_in (c := ub n b) (p := x) (min 8 (lE n b x - x).toNat) (fun i hi => by
            have := hl1.2.1 (x + i) (by omega) (by omega)
            unfold ltr at this
            exact of_decide_eq_true this)
          have hp8 := p27 (min 8 (lE n b x - x).toNat) (by omega)
          rw [if_pos hL3, if_neg (by decide), cut_l hB2 hb x0 x1, jnS, nrm_i (z := lE n b x - x) (by omega) (by omega), show nrm 8 = 8 by decide, show nrm 7 = 7 by decide]
          have tl : ∀ y : Int, wd y → y = tkK n b x → ∃ (s' : TW) (c' : Nat), (bt_ (f_X8_token s y x 0 (pkN (ub n b) x (min 8 (lE n b x - x).toNat))) fun _ s38 => f_X8_cut_L7 fl s38 (x + (lE n b x - x)) (fun s53 => some ((), s53))) = some ((), s') ∧ chg [5, 6, 7, 8] [10] s0 s' ∧ TkT s' n b c' ∧ c' ≤ 401 ∧ (c' = 401 ∨ (1 ≤ c' ∧ tps n b (c' - 1) = n)) ∧ ∀ i : Nat, i + 1 < c' → tps n b i < n := by
            intro y wy hy
            rw [t_token hc (by omega) (by omega) wy (by unfold wd; omega) w0, show x + (lE n b x - x) = tkE n b x by rw [eE]; omega]
            exact fin y 0 _ hy eN.symm eP.symm
          have eK : tkK n b x = if lE n b x - x ≤ 7 then (match wix (tkP n b x) with | some w => 20 + (w : Int) | none => 1) else if lE n b x - x ≤ 8 then 1 else 3 := by
            unfold tkK; rw [if_neg (by omega), if_pos hL]; rfl
          by_cases q7 : lE n b x - x ≤ 7
          · rw [if_pos (by omega)]
            dsimp only
            rw [jnS, nrm_i (z := lE n b x - x) (by omega) (by omega), if_neg (by omega), cut_w hK2 hpk.1 (by omega)]
            dsimp only
            have eK2 : tkK n b x = match wix (pkN (ub n b) x (min 8 (lE n b x - x).toNat)) with | some w => 20 + (w : Int) | none => 1 := by rw [eK, if_pos q7, eP]
            refine tl _ ?_ eK2.symm
            rcases ew : wix (pkN (ub n b) x (min 8 (lE n b x - x).toNat)) with _ | w
            · show wd 1; unfold wd; omega
            · have := fnd_s ew
              show wd (20 + (w : Int)); unfold wd; omega
          · by_cases q8 : lE n b x - x ≤ 8
            · rw [if_pos q8]
              dsimp only
              rw [jnS, nrm_i (z := lE n b x - x) (by omega) (by omega), if_pos (by omega)]
              dsimp only
              exact tl 1 (by unfold wd; omega) (by rw [eK, if_neg q7, if_pos q8])
            · rw [if_neg q8]
              dsimp only
              rw [jnS, nrm_i (z := lE n b x - x) (by omega) (by omega), if_pos (by omega)]
              dsimp only
              exact tl 3 (by unfold wd; omega) (by rw [eK, if_neg q7, if_neg q8])
        · have hL0 : ltr n b x = false := by simpa using hL
          have hL2 := hL0
          unfold ltr at hL2
          have hL3 := of_decide_eq_false hL2
          have eP : tkP n b x = 0 := by unfold tkP; rw [hL0]; rfl
          rw [if_neg hL3, if_pos (by decide), t_isD hu.1 hu.2]
          by_cases hD : dgt n b x = true
          · have hD2 := hD
            unfold dgt at hD2
            have hD3 := of_decide_eq_true hD2
            have hl1 := dE_in (n := n) (b := b) (p := x)
            have hl2 := dE_le hb x1
            have hl3 := dE_f hD
            have eE : tkE n b x = dE n b x := by unfold tkE; rw [if_neg hL, if_pos hD]
            have eN : tkN n b x = dcN (ub n b) x (min 4 (dE n b x - x).toNat) := by unfold tkN; rw [if_pos hD]
            have hdc := dcN_in (c := ub n b) (p := x) (min 4 (dE n b x - x).toNat) (fun i hi => by
              have := hl1.2.1 (x + i) (by omega) (by omega)
              unfold dgt at this
              exact of_decide_eq_true this)
            have hp8 := p10 (min 4 (dE n b x - x).toNat) (by omega)
            rw [if_pos hD3, if_neg (by decide), cut_d hB2 hb x0 x1, jnS, nrm_i (z := dE n b x - x) (by omega) (by omega), show nrm 4 = 4 by decide]
            have tl : ∀ y : Int, wd y → y = tkK n b x → ∃ (s' : TW) (c' : Nat), (bt_ (f_X8_token s y x (dcN (ub n b) x (min 4 (dE n b x - x).toNat)) 0) fun _ s22 => f_X8_cut_L7 fl s22 (x + (dE n b x - x)) (fun s53 => some ((), s53))) = some ((), s') ∧ chg [5, 6, 7, 8] [10] s0 s' ∧ TkT s' n b c' ∧ c' ≤ 401 ∧ (c' = 401 ∨ (1 ≤ c' ∧ tps n b (c' - 1) = n)) ∧ ∀ i : Nat, i + 1 < c' → tps n b i < n := by
              intro y wy hy
              rw [t_token hc (by omega) (by omega) wy (by unfold wd; omega) (by unfold wd; omega), show x + (dE n b x - x) = tkE n b x by rw [eE]; omega]
              exact fin y _ 0 hy eN.symm eP.symm
            have eK : tkK n b x = if dE n b x - x ≤ 4 then 2 else 3 := by
              unfold tkK; rw [if_neg (by omega), if_neg hL, if_pos hD]
            by_cases q4 : dE n b x - x ≤ 4
            · rw [if_pos q4]
              exact tl 2 (by unfold wd; omega) (by rw [eK, if_pos q4])
            · rw [if_neg q4]
              exact tl 3 (by unfold wd; omega) (by rw [eK, if_neg q4])
          · have hD0 : dgt n b x = false := by simpa using hD
            have hD2 := hD0
            unfold dgt at hD2
            have hD3 := of_decide_eq_false hD2
            have eE : tkE n b x = x + 1 := by unfold tkE; rw [if_neg hL, if_neg hD]
            have eN : tkN n b x = 0 := by unfold tkN; rw [hD0]; rfl
            rw [if_neg hD3, if_pos (by decide), t_byte hB2 hb (by omega) (by omega), t_sign hc (by omega) (by omega) (by unfold wd; omega) hu.1 hu.2, ← eE]
            exact fin _ 0 0 (by unfold tkK; rw [if_neg (by omega), if_neg hL, if_neg hD]) eN.symm eP.symm
theorem t_cut (hb : WfB n b) (hB : Bt s n b) (hK : Kw s) : ∃ (s' : TW) (c : Nat), f_X8_cut s = some ((), s') ∧ chg [5, 6, 7, 8] [10] s s' ∧ TkT s' n b c ∧ c ≤ 401 ∧ (c = 401 ∨ (1 ≤ c ∧ tps n b (c - 1) = n)) ∧ ∀ i : Nat, i + 1 < c → tps n b i < n := by
  have hn := hb.1
  have c0 : chg [5, 6, 7, 8] [10] s (tp s 10 0) := (chg.rf _ _ s).tp (by decide) _
  obtain ⟨s', c, e, h1, h2⟩ := cut_go hb (hB.chg c0 (by decide) (by decide)) (hK.chg c0 (by decide)) 2000 FU (tp s 10 0) 0 0 (by omega) (by decide) (by omega) hn.1 (chg.rf _ _ _) (tp_eq _ _ _) (fun i hi => absurd hi (Nat.not_lt_zero i)) (by decide) (fun i hi => absurd hi (Nat.not_lt_zero i)) rfl
  refine ⟨s', c, ?_, c0.tr h1, h2⟩
  unfold f_X8_cut
  rw [bdS]
  exact e
end
