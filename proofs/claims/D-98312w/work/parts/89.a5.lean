set_option maxRecDepth 100000
set_option maxHeartbeats 1000000
/-! ===== PURE: the component knows words ===== -/
section
variable {σ τ : Hp} {o r : Nat} {n : Int} {b : Int → Int} {β : Type}
theorem chr_d : ∀ m : Nat, m < 128 → chI (anI (m : Int) 255) = (m : Int) := by decide +kernel
theorem sr0 : ∀ m : Nat, m < 16 → srI (m : Int) 0 = (m : Int) := by decide +kernel
theorem kwc_in {w : Nat} (hw : w < 17) {j : Int} (h0 : 0 ≤ j) (h1 : j < kwn w) : 97 ≤ kwc w j ∧ kwc w j ≤ 122 := by
  have := (kw_ok w hw).2.2 j.toNat (by omega)
  rw [show (0 : Int) + (j.toNat : Int) = j by omega] at this
  exact this
theorem h_lit (h : Lit σ o) {w : Nat} (hw : w < 17) (f : Nat → Option β) : (rcv σ 50 (some (σ.2.2.2 w))).bind f = f (σ.2.2.2 w) := by
  obtain ⟨-, m, gs, v, gv, h2, -⟩ := h w hw
  exact rcv_b h2 f
theorem h_chr (h : Lit σ o) {w : Nat} (hw : w < 17) {j : Int} (h0 : 0 ≤ j) (h1 : j < kwn w) (f : Int → Hp → Option β) : bn (f_J10_charAt σ (σ.2.2.2 w) j) f = f (kwc w j) σ := by
  obtain ⟨-, m, gs, v, gv, h2, h3, h4, h5, h6, h7⟩ := h w hw
  have hk := (kw_ok w hw).1
  have hc := kwc_in hw h0 h1
  have ec : chI (anI (kwc w j) 255) = kwc w j := by
    have := chr_d (kwc w j).toNat (by omega)
    rw [show (((kwc w j).toNat : Nat) : Int) = kwc w j by omega] at this
    exact this
  have hl : f_J10_isLatin1 σ (σ.2.2.2 w) = some (1, σ) := by
    unfold f_J10_isLatin1
    rw [if_neg (by decide), gI_b h2, h3, if_neg (by decide)]
  have hx : f_J10_checkIndex σ j (kwn w : Int) = some ((), σ) := by
    unfold f_J10_checkIndex f_J7_checkIndex
    rw [jnS, nrm_i (z := j) (by omega) (by omega), nrm_i (z := (kwn w : Int)) (by omega) (by omega), if_neg (by omega), if_pos h1, bnS]
  have hg : gR σ 50 (some (σ.2.2.2 w)) 0 = some (some v) := by rw [gR_s h2, h4]
  have hcc : f_J11_charAt σ (some v) j = some (kwc w j, σ) := by
    unfold f_J11_charAt
    rw [aL_b h6, hx, bnS, aI_b h6 h0 (by omega) (by omega), h7 j h0 h1, ec, nrm_i (by omega) (by omega), if_pos (by omega)]
  refine bnP ?_ f
  unfold f_J10_charAt
  rw [rcv_b h2, hl, bnS, if_neg (by decide), obP hg, hcc, bnS, nrm_i (by omega) (by omega), if_pos (by omega)]
theorem h_len (h : Lit σ o) {w : Nat} (hw : w < 17) (f : Int → Hp → Option β) : bn (f_J10_length σ (σ.2.2.2 w)) f = f (kwn w : Int) σ := by
  obtain ⟨-, m, gs, v, gv, h2, h3, h4, h5, h6, h7⟩ := h w hw
  have hk := (kw_ok w hw).1
  have hg : gR σ 50 (some (σ.2.2.2 w)) 0 = some (some v) := by rw [gR_s h2, h4]
  have hc : f_J10_coder σ (σ.2.2.2 w) = some (0, σ) := by
    unfold f_J10_coder
    rw [if_neg (by decide), gI_b h2, h3, if_pos (by decide)]
  refine bnP ?_ f
  unfold f_J10_length
  rw [obP hg, aL_b h6, rcv_b h2, hc, bnS, sr0 _ (by omega)]
theorem o_g20_ (h : Osh σ o r) (f : Option Nat → Option β) : (gR σ 2 (some (o + 2)) 0).bind f = f (some (o + 3)) := by obtain ⟨-, -, ⟨g, h, h2, -⟩, -⟩ := h; exact obP (by rw [gR_s h, h2]) f
theorem o_s3 (h : Osh σ o r) : ∃ g : Int → Option Nat, shp σ (o + 3) = some (108, 17, g) ∧ ∀ i : Nat, i < 17 → g i = some (σ.2.2.2 i) := by obtain ⟨-, -, -, h, -⟩ := h; exact h
theorem o_a3 (h : Osh σ o r) {w : Nat} (hw : w < 17) (f : Option Nat → Option β) : (aR σ 108 (some (o + 3)) (w : Int)).bind f = f (some (σ.2.2.2 w)) := by
  obtain ⟨g, e, e2⟩ := o_s3 h
  rw [aR_b e (by omega) (by omega) (by omega), e2 w hw]
/-- does it stand there -/
def wat (b : Int → Int) (p : Int) (w i j : Nat) : Bool := itr (fun q a => a && decide (kwc w ((i + q : Nat) : Int) = b (p + ((i + q : Nat) : Int)))) j true
theorem wat_t (b : Int → Int) (p : Int) (w i : Nat) : ∀ j : Nat, wat b p w i j = true ↔ ∀ q : Nat, q < j → kwc w ((i + q : Nat) : Int) = b (p + ((i + q : Nat) : Int)) := by
  intro j
  induction j with
  | zero => exact ⟨fun _ q hq => absurd hq (Nat.not_lt_zero q), fun _ => rfl⟩
  | succ j ih =>
    have e : wat b p w i (j + 1) = (wat b p w i j && decide (kwc w ((i + j : Nat) : Int) = b (p + ((i + j : Nat) : Int)))) := rfl
    rw [e, Bool.and_eq_true, ih, decide_eq_true_iff]
    constructor
    · intro h q hq
      by_cases c : q = j
      · rw [c]; exact h.2
      · exact h.1 q (by omega)
    · intro h
      exact ⟨fun q hq => h q (by omega), h j (by omega)⟩
theorem w36 (hO : Osh σ o r) (P : TpC σ o n b) (hb : WfB n b) (hL : Lit σ o) {w : Nat} (hw : w < 17) {p e : Int} (h0 : 0 ≤ p) (h1 : e ≤ n) (he : e - p = kwn w) (k : Hp → Int → Int → Int → Int → Option (Int × Hp)) : ∀ (j i m : Nat), i + j = kwn w → j + 1 < m → f_X2_word_L36 (o + 2) m σ p e w 1 (p + i) k = k σ p e w (if ∀ q : Nat, q < j → kwc w ((i + q : Nat) : Int) = b (p + ((i + q : Nat) : Int)) then 1 else 0) := by
  have hn := hb.1
  intro j
  induction j with
  | zero =>
    intro i m hi hm
    obtain ⟨m, rfl⟩ : ∃ q, m = q + 1 := ⟨m - 1, by omega⟩
    rw [f_X2_word_L36, nrm_i (z := e) (by omega) (by omega), nrm_i (z := p + i) (by omega) (by omega), if_pos (by omega), if_pos (fun q hq => absurd hq (Nat.not_lt_zero q))]
  | succ j ih =>
    intro i m hi hm
    obtain ⟨m, rfl⟩ : ∃ q, m = q + 1 := ⟨m - 1, by omega⟩
    have hv := hb.2 (p + i) (by omega) (by omega)
    have hk := kwc_in hw (j := (i : Int)) (by omega) (by omega)
    rw [f_X2_word_L36, nrm_i (z := e) (by omega) (by omega), nrm_i (z := p + i) (by omega) (by omega), if_neg (by omega), if_neg (by decide), o_g20_ hO, o_a3 hO hw, h_lit hL hw, show p + (i : Int) - p = i by omega, h_chr hL hw (by omega) (by omega), o_t2 hO, o_a4 hO (by omega) (by omega), P.2 _ (by omega) (by omega), nrm_i (z := kwc w i) (by omega) (by omega), nrm_i (z := b (p + i)) (by omega) (by omega)]
    by_cases c : kwc w i = b (p + i)
    · rw [if_neg (fun h => h c), show p + (i : Int) + 1 = p + ((i + 1 : Nat) : Int) by omega, ih (i + 1) m (by omega) (by omega)]
      have : (∀ q : Nat, q < j → kwc w ((i + 1 + q : Nat) : Int) = b (p + ((i + 1 + q : Nat) : Int))) ↔ (∀ q : Nat, q < j + 1 → kwc w ((i + q : Nat) : Int) = b (p + ((i + q : Nat) : Int))) := by
        constructor
        · intro h q hq
          cases q with
          | zero => exact c
          | succ q => have := h q (by omega); rw [show i + 1 + q = i + (q + 1) by omega] at this; exact this
        · intro h q hq
          have := h (q + 1) (by omega)
          rw [show i + (q + 1) = i + 1 + q by omega] at this
          exact this
      by_cases d : ∀ q : Nat, q < j + 1 → kwc w ((i + q : Nat) : Int) = b (p + ((i + q : Nat) : Int))
      · rw [if_pos d, if_pos (this.mpr d)]
      · rw [if_neg d, if_neg (fun h => d (this.mp h))]
    · rw [if_pos c, if_neg (fun h => c (h 0 (by omega)))]
      obtain ⟨m, rfl⟩ : ∃ q, m = q + 1 := ⟨m - 1, by omega⟩
      rw [f_X2_word_L36, show nrm 0 = 0 by decide]
      by_cases d : nrm e ≤ nrm (p + (i : Int) + 1)
      · rw [if_pos d]
      · rw [if_neg d, if_pos rfl]
theorem h_word (hO : Osh σ o r) (P : TpC σ o n b) (hb : WfB n b) (hL : Lit σ o) {p : Int} (h0 : 0 ≤ p) (h1 : p < n) (hl : ltr n b p = true) (f : Int → Hp → Option β) : bn (f_X2_word σ (o + 2) p (lE n b p)) f = f (if lE n b p - p ≤ 7 then (match wix (tkP n b p) with | some w => (w : Int) | none => -1) else -1) σ := by
  have hn := hb.1
  have hl1 := lE_in (n := n) (b := b) (p := p)
  have hl2 := lE_le hb (Int.le_of_lt h1)
  have hl3 := lE_f hl
  have hlt : ∀ i : Nat, i < (lE n b p - p).toNat → 97 ≤ ub n b (p + i) ∧ ub n b (p + i) ≤ 122 := fun i hi => by
    have := hl1.2.1 (p + i) (by omega) (by omega)
    unfold ltr at this
    exact of_decide_eq_true this
  have hub : ∀ i : Nat, i < (lE n b p - p).toNat → ub n b (p + i) = b (p + i) := fun i hi => by
    have h := hlt i hi
    unfold ub at h ⊢
    have hv := hb.2 (p + i) (by omega) (by omega)
    rw [if_neg (by omega)] at h ⊢
    split at h
    · omega
    · next c => rw [if_neg c]
  refine bnP ?_ f
  unfold f_X2_word
  have key := loopF (fun m i => f_X2_word_L2 (o + 2) m σ p (lE n b p) i (fun s23 => some ((-1), s23))) (some ((-1 : Int), σ)) (fun w => some ((w : Int), σ)) (fun w => decide (lE n b p - p = kwn w ∧ ∀ q : Nat, q < kwn w → kwc w ((0 + q : Nat) : Int) = b (p + ((0 + q : Nat) : Int)))) 17 0 (fl := FU) (by decide) (fun m w hw => ?_) (fun m => ?_)
  · rw [key]
    by_cases c7 : lE n b p - p ≤ 7
    · rw [if_pos c7]
      have eP : tkP n b p = pkN (ub n b) p (lE n b p - p).toNat := by unfold tkP; rw [if_pos hl, show min 8 (lE n b p - p).toNat = (lE n b p - p).toNat by omega]
      have ex : ∀ (j i : Nat), i + j = 17 → fnd (fun w => decide (lE n b p - p = kwn w ∧ ∀ q : Nat, q < kwn w → kwc w ((0 + q : Nat) : Int) = b (p + ((0 + q : Nat) : Int)))) i j = fnd (fun w => decide (kwp w = tkP n b p)) i j := by
        intro j
        induction j with
        | zero => intro i _; rfl
        | succ j ih =>
          intro i hi
          have hk := kw_ok i (by omega)
          have e : decide (lE n b p - p = kwn i ∧ ∀ q : Nat, q < kwn i → kwc i ((0 + q : Nat) : Int) = b (p + ((0 + q : Nat) : Int))) = decide (kwp i = tkP n b p) := by
            refine decide_eq_decide.mpr ⟨fun h => ?_, fun h => ?_⟩
            · rw [hk.2.1, eP, show (lE n b p - p).toNat = kwn i by omega]
              refine pkN_eq _ fun q hq => ?_
              have := h.2 q hq
              rw [Nat.zero_add] at this
              rw [Int.zero_add, hub q (by omega)]
              exact this
            · rw [hk.2.1, eP] at h
              obtain ⟨r1, r2⟩ := pk_inj _ _ hk.2.2 hlt h
              refine ⟨by omega, fun q hq => ?_⟩
              have := r2 q hq
              rw [Int.zero_add, hub q (by omega)] at this
              rw [Nat.zero_add]
              exact this
          rw [fnd, fnd, ih (i + 1) (by omega), e]
      rw [ex 17 0 rfl]
      show _ = some ((match wix (tkP n b p) with | some w => (w : Int) | none => -1), σ)
      unfold wix
      rcases fnd (fun w => decide (kwp w = tkP n b p)) 0 17 with _ | w <;> rfl
    · rw [if_neg c7]
      have ex : fnd (fun w => decide (lE n b p - p = kwn w ∧ ∀ q : Nat, q < kwn w → kwc w ((0 + q : Nat) : Int) = b (p + ((0 + q : Nat) : Int)))) 0 17 = none := by
        refine fnd_n.mpr fun w _ hw => decide_eq_false fun h => ?_
        have hk := (kw_ok w (by omega)).1
        omega
      rw [ex]
  · have hk := (kw_ok w hw).1
    have ea : aL σ 108 (some (o + 3)) = some 17 := by obtain ⟨g, e, -⟩ := o_s3 hO; exact aL_s e
    rw [Int.zero_add, f_X2_word_L2, o_g20_ hO, obP ea, nrm_i (z := 17) (by decide) (by decide), nrm_i (z := (w : Int)) (by omega) (by omega), if_neg (by omega), o_g20_ hO, o_a3 hO hw, h_lit hL hw, h_len hL hw, jnS, nrm_i (z := (kwn w : Int)) (by omega) (by omega), nrm_i (z := lE n b p - p) (by omega) (by omega)]
    by_cases c : lE n b p - p = kwn w
    · rw [if_neg (fun h => h c.symm)]
      have := w36 hO P hb hL hw h0 hl2 c (fun s19 x1 x2 x3 x4 => (if nrm x4 = 0 then (f_X2_word_L2 (o + 2) m s19 x1 x2 (x3 + 1) (fun s23 => some ((-1), s23))) else (some (nrm x3, s19)))) (kwn w) 0 FU (by omega) (by show _ < 20000; omega)
      rw [show p + ((0 : Nat) : Int) = p by omega] at this
      refine this.trans ?_
      by_cases d : ∀ q : Nat, q < kwn w → kwc w ((0 + q : Nat) : Int) = b (p + ((0 + q : Nat) : Int))
      · rw [if_pos d, if_pos (decide_eq_true ⟨c, d⟩), if_neg (by decide), nrm_i (by omega) (by omega)]
      · rw [if_neg d, if_pos (show nrm 0 = 0 by decide), if_neg (fun h => d (of_decide_eq_true h).2)]
    · rw [if_pos (fun h => c h.symm), if_neg (by simp; intro h; exact absurd h c)]
      show f_X2_word_L36 (o + 2) FU σ p (lE n b p) w 0 p _ = _
      rw [show FU = 19999 + 1 from rfl, f_X2_word_L36]
      by_cases d : nrm (lE n b p) ≤ nrm p
      · rw [if_pos d, if_pos (by decide)]
      · rw [if_neg d, if_pos (by decide), if_pos (by decide)]
  · have ea : aL σ 108 (some (o + 3)) = some 17 := by obtain ⟨g, e, -⟩ := o_s3 hO; exact aL_s e
    rw [f_X2_word_L2, o_g20_ hO, obP ea, if_pos (by decide)]
end
