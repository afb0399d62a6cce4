set_option maxRecDepth 100000
set_option maxHeartbeats 1000000
/-! ===== PURE: the twin cuts ===== -/
theorem fnd_su (P : Nat → Bool) : ∀ (j i : Nat), fnd P i (j + 1) = match fnd P i j with | some w => some w | none => if P (i + j) = true then some (i + j) else none := by
  intro j
  induction j with
  | zero => intro i; show (if P i then some i else none) = _; rfl
  | succ j ih =>
    intro i
    rw [fnd]
    by_cases c : P i = true
    · rw [if_pos c, fnd, if_pos c]
    · rw [if_neg c, ih (i + 1), fnd, if_neg c, show i + 1 + j = i + (j + 1) by omega]
def Bt (s : TW) (n : Int) (b : Int → Int) : Prop := s.1 4 = n ∧ ∀ i : Int, 0 ≤ i → i < n → s.2 3 i = b i
def Kw (s : TW) : Prop := ∀ w : Nat, w < 17 → s.2 9 w = kwp w
section
variable {s s' : TW} {n : Int} {b : Int → Int} {β : Type}
theorem Bt.chg {ks fs : List Int} (h : Bt s n b) (c : cg_ ks fs s s') (h1 : (3 : Int) ∉ ks) (h2 : (4 : Int) ∉ fs) : Bt s' n b := ⟨(c.2 4 h2).trans h.1, fun i i0 i1 => by rw [c.1 3 h1]; exact h.2 i i0 i1⟩
theorem Kw.chg {ks fs : List Int} (h : Kw s) (c : cg_ ks fs s s') (h1 : (9 : Int) ∉ ks) : Kw s' := fun w hw => by rw [c.1 9 h1]; exact h w hw
theorem t_byte (h : Bt s n b) (hb : WfB n b) {p : Int} (h0 : 0 ≤ p) (h1 : p ≤ 10000) (f : Int → TW → Option β) : bt_ (f_X8_byteAt s p) f = f (ub n b p) s := by
  have hn := hb.1
  refine btP ?_ f
  unfold f_X8_byteAt ub
  rw [h.1, nrm_i (z := n) (by omega) (by omega), nrm_i (z := p) (by omega) (by omega)]
  by_cases c : n ≤ p
  · rw [if_pos c, if_pos c]
  · have := hb.2 p h0 (by omega)
    rw [if_neg c, if_neg c, tb3 h0 (by omega), h.2 p h0 (by omega), anI_b this.1 this.2]
theorem t_isL {c : Int} (h0 : 0 ≤ c) (h1 : c ≤ 255) (f : Int → TW → Option β) : bt_ (f_X8_isLetter s c) f = f (if 97 ≤ c ∧ c ≤ 122 then 1 else 0) s := by
  refine btP ?_ f
  unfold f_X8_isLetter
  rw [nrm_i (z := c) (by omega) (by omega), nrm_i (z := 97) (by decide) (by decide), nrm_i (z := 122) (by decide) (by decide)]
  by_cases c1 : c < 97
  · rw [if_pos c1, if_neg (by omega)]
  · rw [if_neg c1]
    by_cases c2 : 122 < c
    · rw [if_pos c2, if_neg (by omega)]
    · rw [if_neg c2, if_pos (by omega)]
theorem t_isD {c : Int} (h0 : 0 ≤ c) (h1 : c ≤ 255) (f : Int → TW → Option β) : bt_ (f_X8_isDigit s c) f = f (if 48 ≤ c ∧ c ≤ 57 then 1 else 0) s := by
  refine btP ?_ f
  unfold f_X8_isDigit
  rw [nrm_i (z := c) (by omega) (by omega), nrm_i (z := 48) (by decide) (by decide), nrm_i (z := 57) (by decide) (by decide)]
  by_cases c1 : c < 48
  · rw [if_pos c1, if_neg (by omega)]
  · rw [if_neg c1]
    by_cases c2 : 57 < c
    · rw [if_pos c2, if_neg (by omega)]
    · rw [if_neg c2, if_pos (by omega)]
theorem lE_le (hb : WfB n b) {p : Int} (h1 : p ≤ n) : lE n b p ≤ n := by
  have := lE_in (n := n) (b := b) (p := p); omega
theorem dE_le (hb : WfB n b) {p : Int} (h1 : p ≤ n) : dE n b p ≤ n := by
  have := dE_in (n := n) (b := b) (p := p); omega
theorem cut_l (h : Bt s n b) (hb : WfB n b) {p : Int} (h0 : 0 ≤ p) (h1 : p ≤ n) (k : TW → Int → Int → Int → Option (Unit × TW)) : f_X8_cut_L85 FU s p 0 0 k = k s p (lE n b p - p) (pkN (ub n b) p (min 8 (lE n b p - p).toNat)) := by
  have hn := hb.1
  have hl := lE_in (n := n) (b := b) (p := p)
  have hl2 := lE_le hb h1
  have l1 := hl.1.1
  have key := loopI (fun m (a : Int) i => f_X8_cut_L85 m s p i a k) (fun a => k s p (lE n b p - p) a) (fun i a => if i < 8 then 27 * a + (ub n b (p + i) - 96) else a) (fun i a => a = pkN (ub n b) p (min 8 i)) (lE n b p - p).toNat 0 (fl := FU) (by show _ < 20000; omega) (a0 := 0) rfl (fun m i a hi ha => ?_) (fun m a ha => ?_)
  · rw [key.1, key.2]
  · have hq := hl.2.1 (p + i) (by omega) (by omega)
    have hu := ub_in hb (p := p + i) (by omega)
    have hc : 97 ≤ ub n b (p + i) ∧ ub n b (p + i) ≤ 122 := by unfold ltr at hq; exact of_decide_eq_true hq
    rw [Int.zero_add]
    refine ⟨?_, ?_⟩
    · rw [f_X8_cut_L85, t_byte h hb (by omega) (by omega), t_isL hu.1 hu.2, if_pos hc, if_neg (by decide), nrm_i (z := 8) (by decide) (by decide), nrm_i (z := (i : Int)) (by omega) (by omega)]
      by_cases c : i < 8
      · rw [if_neg (by omega), if_pos c, t_byte h hb (by omega) (by omega)]
        have e : bt_ (f_X8_appends s a (ub n b (p + i))) (fun v32 s31 => f_X8_cut_L85 m s31 p ((i : Int) + 1) v32 k) = f_X8_cut_L85 m s p ((i : Int) + 1) (27 * a + (ub n b (p + i) - 96)) k := by
          unfold f_X8_appends
          rw [nrm_i (z := ub n b (p + i)) (by omega) (by omega), if_pos (by omega), nrm_i (by omega) (by omega), btS, show ub n b (p + i) - 97 + 1 = ub n b (p + i) - 96 by omega]
        exact e
      · rw [if_pos (by omega), if_neg c]
    · by_cases c : i < 8
      · rw [if_pos c, ha, show min 8 (i + 1) = i + 1 by omega, show min 8 i = i by omega, pkN]
      · rw [if_neg c, ha, show min 8 (i + 1) = min 8 i by omega]
  · have hq := hl.2.2
    have hu := ub_in hb (p := lE n b p) (by omega)
    have hc : ¬ (97 ≤ ub n b (lE n b p) ∧ ub n b (lE n b p) ≤ 122) := by unfold ltr at hq; exact of_decide_eq_false hq
    show f_X8_cut_L85 (m + 1) s p _ a k = _
    rw [Int.zero_add, show (((lE n b p - p).toNat : Nat) : Int) = lE n b p - p by omega, f_X8_cut_L85, show p + (lE n b p - p) = lE n b p by omega, t_byte h hb (by omega) (by omega), t_isL hu.1 hu.2, if_neg hc, if_pos (by decide)]
theorem cut_d (h : Bt s n b) (hb : WfB n b) {p : Int} (h0 : 0 ≤ p) (h1 : p ≤ n) (k : TW → Int → Int → Int → Option (Unit × TW)) : f_X8_cut_L208 FU s p 0 0 k = k s p (dE n b p - p) (dcN (ub n b) p (min 4 (dE n b p - p).toNat)) := by
  have hn := hb.1
  have hl := dE_in (n := n) (b := b) (p := p)
  have hl2 := dE_le hb h1
  have l1 := hl.1.1
  have key := loopI (fun m (a : Int) i => f_X8_cut_L208 m s p i a k) (fun a => k s p (dE n b p - p) a) (fun i a => if i < 4 then 10 * a + ub n b (p + i) - 48 else a) (fun i a => a = dcN (ub n b) p (min 4 i)) (dE n b p - p).toNat 0 (fl := FU) (by show _ < 20000; omega) (a0 := 0) rfl (fun m i a hi ha => ?_) (fun m a ha => ?_)
  · rw [key.1, key.2]
  · have hq := hl.2.1 (p + i) (by omega) (by omega)
    have hu := ub_in hb (p := p + i) (by omega)
    have hc : 48 ≤ ub n b (p + i) ∧ ub n b (p + i) ≤ 57 := by unfold dgt at hq; exact of_decide_eq_true hq
    rw [Int.zero_add]
    refine ⟨?_, ?_⟩
    · rw [f_X8_cut_L208, t_byte h hb (by omega) (by omega), t_isD hu.1 hu.2, if_pos hc, if_neg (by decide), nrm_i (z := 4) (by decide) (by decide), nrm_i (z := (i : Int)) (by omega) (by omega)]
      by_cases c : i < 4
      · rw [if_neg (by omega), if_pos c, t_byte h hb (by omega) (by omega)]
      · rw [if_pos (by omega), if_neg c]
    · by_cases c : i < 4
      · rw [if_pos c, ha, show min 4 (i + 1) = i + 1 by omega, show min 4 i = i by omega, dcN]
      · rw [if_neg c, ha, show min 4 (i + 1) = min 4 i by omega]
  · have hq := hl.2.2
    have hu := ub_in hb (p := dE n b p) (by omega)
    have hc : ¬ (48 ≤ ub n b (dE n b p) ∧ ub n b (dE n b p) ≤ 57) := by unfold dgt at hq; exact of_decide_eq_false hq
    show f_X8_cut_L208 (m + 1) s p _ a k = _
    rw [Int.zero_add, show (((dE n b p - p).toNat : Nat) : Int) = dE n b p - p by omega, f_X8_cut_L208, show p + (dE n b p - p) = dE n b p by omega, t_byte h hb (by omega) (by omega), t_isD hu.1 hu.2, if_neg hc, if_pos (by decide)]
theorem nrj_i {z : Int} (h : -9223372036854775808 ≤ z) (h2 : z ≤ 9223372036854775807) : nrj z = z := Int64.toInt_ofInt_of_le h (by omega)
theorem cmJ_e {x y : Int} (h0 : -9223372036854775808 ≤ x) (h1 : x ≤ 9223372036854775807) (h2 : -9223372036854775808 ≤ y) (h3 : y ≤ 9223372036854775807) : nrm (cmJ x y) = 0 ↔ x = y := by
  unfold cmJ
  rw [nrj_i h0 h1, nrj_i h2 h3]
  by_cases c : x = y
  · rw [if_neg (by omega), if_pos c]; simp [c]; decide
  · by_cases d : y < x
    · rw [if_pos d]; simp [c]; decide
    · rw [if_neg d, if_neg c]; simp [c]; decide
theorem kwp_in : ∀ w : Nat, w < 17 → 0 ≤ kwp w ∧ kwp w ≤ 9223372036854775807 := by
  have : ∀ w ∈ List.range 17, 0 ≤ kwp w ∧ kwp w ≤ 9223372036854775807 := by decide
  exact fun w h => this w (List.mem_range.mpr h)
theorem cut_w (h : Kw s) {v : Int} (h0 : 0 ≤ v) (h1 : v ≤ 9223372036854775807) (x1 x3 y0 : Int) (k : TW → Int → Int → Int → Int → Option (Unit × TW)) : f_X8_cut_L146 FU s x1 x3 v y0 0 k = k s x1 x3 v (match wix v with | some w => 20 + (w : Int) | none => y0) := by
  have key := loopI (fun m (a : Int) i => f_X8_cut_L146 m s x1 x3 v a i k) (fun a => k s x1 x3 v a) (fun i a => if kwp i = v then 20 + (i : Int) else a) (fun i a => a = match fnd (fun w => decide (kwp w = v)) 0 i with | some w => 20 + (w : Int) | none => y0) 17 0 (fl := FU) (by decide) (a0 := y0) rfl (fun m i a hi ha => ?_) (fun m a ha => ?_)
  · rw [key.1, key.2]; rfl
  · rw [Int.zero_add]
    have hk := kwp_in i hi
    refine ⟨?_, ?_⟩
    · rw [f_X8_cut_L146, nrm_i (z := 17) (by decide) (by decide), nrm_i (z := (i : Int)) (by omega) (by omega), if_neg (by omega), tb9 (by omega) (by omega), h i hi]
      have ce := cmJ_e (x := kwp i) (y := v) (by omega) hk.2 (by omega) h1
      by_cases c : kwp i = v
      · rw [if_neg (fun q => q (ce.mpr c)), if_pos c]
      · rw [if_pos (fun q => c (ce.mp q)), if_neg c]
    · rw [fnd_su, Nat.zero_add]
      by_cases c : kwp i = v
      · rw [if_pos c]
        rcases e : fnd (fun w => decide (kwp w = v)) 0 i with _ | w
        · dsimp only; rw [if_pos (by simpa using c)]
        · have hw := fnd_s e
          have := of_decide_eq_true hw.2.1
          have := kwp_u w i (by omega) hi (this.trans c.symm)
          omega
      · rw [if_neg c, ha]
        rcases e : fnd (fun w => decide (kwp w = v)) 0 i with _ | w
        · dsimp only; rw [if_neg (by simpa using c)]
        · rfl
  · show f_X8_cut_L146 (m + 1) s x1 x3 v a _ k = _
    rw [f_X8_cut_L146, if_pos (by decide)]
end
