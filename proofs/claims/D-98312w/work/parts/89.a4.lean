set_option maxRecDepth 100000
set_option maxHeartbeats 1000000
/-! ===== PURE: the component cuts ===== -/
theorem pk_inj {c d : Int → Int} {p q : Int} : ∀ k m : Nat, (∀ i : Nat, i < k → 97 ≤ c (p + i) ∧ c (p + i) ≤ 122) → (∀ i : Nat, i < m → 97 ≤ d (q + i) ∧ d (q + i) ≤ 122) → pkN c p k = pkN d q m → k = m ∧ ∀ i : Nat, i < k → c (p + i) = d (q + i) := by
  intro k
  induction k with
  | zero =>
    intro m _ hd e
    cases m with
    | zero => exact ⟨rfl, fun i hi => absurd hi (Nat.not_lt_zero i)⟩
    | succ m =>
      have h1 := hd m (by omega)
      have h2 := pkN_in (c := d) (p := q) m (fun i hi => hd i (by omega))
      have e : (0 : Int) = 27 * pkN d q m + (d (q + m) - 96) := e
      omega
  | succ k ih =>
    intro m hc hd e
    have g1 := hc k (by omega)
    have g2 := pkN_in (c := c) (p := p) k (fun i hi => hc i (by omega))
    cases m with
    | zero =>
      have e : 27 * pkN c p k + (c (p + k) - 96) = (0 : Int) := e
      omega
    | succ m =>
      have h1 := hd m (by omega)
      have h2 := pkN_in (c := d) (p := q) m (fun i hi => hd i (by omega))
      have e : 27 * pkN c p k + (c (p + k) - 96) = 27 * pkN d q m + (d (q + m) - 96) := e
      obtain ⟨r1, r2⟩ := ih m (fun i hi => hc i (by omega)) (fun i hi => hd i (by omega)) (by omega)
      refine ⟨by omega, fun i hi => ?_⟩
      by_cases c0 : i = k
      · subst c0; subst r1; omega
      · exact r2 i (by omega)
theorem pkN_eq {c d : Int → Int} {p q : Int} : ∀ k : Nat, (∀ i : Nat, i < k → c (p + i) = d (q + i)) → pkN c p k = pkN d q k := by
  intro k
  induction k with
  | zero => intro _; rfl
  | succ k ih => intro h; rw [pkN, pkN, ih (fun i hi => h i (by omega)), h k (by omega)]
def kwc (w : Nat) (j : Int) : Int := (kwl.getD w []).getD j.toNat 0
def kwn (w : Nat) : Nat := (kwl.getD w []).length
theorem kw_ok : ∀ w : Nat, w < 17 → (2 ≤ kwn w ∧ kwn w ≤ 6) ∧ kwp w = pkN (kwc w) 0 (kwn w) ∧ ∀ i : Nat, i < kwn w → 97 ≤ kwc w (0 + i) ∧ kwc w (0 + i) ≤ 122 := by
  have : ∀ w ∈ List.range 17, (2 ≤ kwn w ∧ kwn w ≤ 6) ∧ kwp w = pkN (kwc w) 0 (kwn w) ∧ ∀ i ∈ List.range (kwn w), 97 ≤ kwc w (0 + (i : Int)) ∧ kwc w (0 + (i : Int)) ≤ 122 := by decide
  intro w hw
  obtain ⟨h1, h2, h3⟩ := this w (List.mem_range.mpr hw)
  exact ⟨h1, h2, fun i hi => h3 i (List.mem_range.mpr hi)⟩
/-- the words lie as literals -/
def Lit (σ : Hp) (o : Nat) : Prop := ∀ w : Nat, w < 17 → σ.2.2.2 w < o ∧ ∃ (m : Int) (gs : Int → Option Nat) (v : Nat) (gv : Int → Option Nat), shp σ (σ.2.2.2 w) = some (50, m, gs) ∧ ci σ (σ.2.2.2 w) 1 = 0 ∧ gs 0 = some v ∧ v < o ∧ shp σ v = some (150, (kwn w : Int), gv) ∧ ∀ j : Int, 0 ≤ j → j < kwn w → ci σ v j = kwc w j
section
variable {σ τ : Hp} {o r : Nat} {n : Int} {b : Int → Int} {β : Type}
theorem Lit.chg (h : Lit σ o) (c : chgH (stS o) σ τ) : Lit τ o := by
  intro w hw
  obtain ⟨h1, m, gs, v, gv, h2, h3, h4, h5, h6, h7⟩ := h w hw
  have e : τ.2.2.2 = σ.2.2.2 := by rw [c.1]
  rw [e]
  refine ⟨h1, m, gs, v, gv, (c.2.1 _).trans h2, ?_, h4, h5, (c.2.1 _).trans h6, fun j j0 j1 => ?_⟩
  · rw [c.num (by unfold stS; omega)]; exact h3
  · rw [c.num (by unfold stS; omega)]; exact h7 j j0 j1
theorem o_r2 (h : Osh σ o r) (f : Nat → Option β) : (rcv σ 2 (some (o + 2))).bind f = f (o + 2) := by obtain ⟨g, e, -⟩ := o_s2 h; exact rcv_b e f
theorem h_at (hO : Osh σ o r) (P : TpC σ o n b) (hb : WfB n b) {p : Int} (h0 : 0 ≤ p) (h1 : p ≤ 10000) (f : Int → Hp → Option β) : bn (f_X2_at σ (o + 2) p) f = f (if n ≤ p then 0 else b p) σ := by
  have hn := hb.1
  refine bnP ?_ f
  unfold f_X2_at
  rw [o_a2 hO, P.1, nrm_i (z := n) (by omega) (by omega), nrm_i (z := p) (by omega) (by omega)]
  by_cases c : n ≤ p
  · rw [if_pos c, if_pos c]
  · rw [if_neg c, if_neg c, o_t2 hO, o_a4 hO h0 (by omega), P.2 p h0 (by omega)]
theorem h_isL (hO : Osh σ o r) (P : TpC σ o n b) (hb : WfB n b) {p : Int} (h0 : 0 ≤ p) (h1 : p ≤ 10000) (f : Int → Hp → Option β) : bn (f_X2_isLetter σ (o + 2) p) f = f (if ltr n b p = true then 1 else 0) σ := by
  have hn := hb.1
  have hv : -128 ≤ (if n ≤ p then 0 else b p) ∧ (if n ≤ p then 0 else b p) ≤ 127 := by
    split
    · omega
    · exact hb.2 p h0 (by omega)
  have hu : ltr n b p = decide (97 ≤ (if n ≤ p then 0 else b p) ∧ (if n ≤ p then 0 else b p) ≤ 122) := by
    unfold ltr ub
    by_cases c : n ≤ p
    · rw [if_pos c, if_pos c]
    · rw [if_neg c, if_neg c]
      have := hb.2 p h0 (by omega)
      split
      · exact decide_eq_decide.mpr ⟨fun h => by omega, fun h => by omega⟩
      · rfl
  refine bnP ?_ f
  have ha : ∀ {γ : Type} (g : Int → Hp → Option γ), bn (f_X2_at σ (o + 2) p) g = g (if n ≤ p then 0 else b p) σ := fun g => h_at hO P hb h0 h1 g
  rw [hu]
  generalize (if n ≤ p then 0 else b p) = v at hv ha
  unfold f_X2_isLetter
  rw [o_r2 hO, ha, nrm_i (z := v) (by omega) (by omega), show nrm 97 = 97 by decide, show nrm 122 = 122 by decide]
  by_cases c1 : v < 97
  · rw [if_pos c1, if_neg (by simp; omega)]
  · rw [if_neg c1, o_r2 hO, ha, nrm_i (z := v) (by omega) (by omega)]
    by_cases c2 : 122 < v
    · rw [if_pos c2, if_neg (by simp; omega)]
    · rw [if_neg c2, if_pos (by simp; omega)]
theorem h_isD (hO : Osh σ o r) (P : TpC σ o n b) (hb : WfB n b) {p : Int} (h0 : 0 ≤ p) (h1 : p ≤ 10000) (f : Int → Hp → Option β) : bn (f_X2_isDigit σ (o + 2) p) f = f (if dgt n b p = true then 1 else 0) σ := by
  have hn := hb.1
  have hv : -128 ≤ (if n ≤ p then 0 else b p) ∧ (if n ≤ p then 0 else b p) ≤ 127 := by
    split
    · omega
    · exact hb.2 p h0 (by omega)
  have hu : dgt n b p = decide (48 ≤ (if n ≤ p then 0 else b p) ∧ (if n ≤ p then 0 else b p) ≤ 57) := by
    unfold dgt ub
    by_cases c : n ≤ p
    · rw [if_pos c, if_pos c]
    · rw [if_neg c, if_neg c]
      have := hb.2 p h0 (by omega)
      split
      · exact decide_eq_decide.mpr ⟨fun h => by omega, fun h => by omega⟩
      · rfl
  refine bnP ?_ f
  have ha : ∀ {γ : Type} (g : Int → Hp → Option γ), bn (f_X2_at σ (o + 2) p) g = g (if n ≤ p then 0 else b p) σ := fun g => h_at hO P hb h0 h1 g
  rw [hu]
  generalize (if n ≤ p then 0 else b p) = v at hv ha
  unfold f_X2_isDigit
  rw [o_r2 hO, ha, nrm_i (z := v) (by omega) (by omega), show nrm 48 = 48 by decide, show nrm 57 = 57 by decide]
  by_cases c1 : v < 48
  · rw [if_pos c1, if_neg (by simp; omega)]
  · rw [if_neg c1, o_r2 hO, ha, nrm_i (z := v) (by omega) (by omega)]
    by_cases c2 : 57 < v
    · rw [if_pos c2, if_neg (by simp; omega)]
    · rw [if_neg c2, if_pos (by simp; omega)]
theorem h_runL (hO : Osh σ o r) (P : TpC σ o n b) (hb : WfB n b) {p : Int} (h0 : 0 ≤ p) (h1 : p ≤ n) (hL : ltr n b p = true) (k : Hp → Int → Int → Option (Unit × Hp)) : f_X2_read_L74 (o + 2) FU σ p (p + 1) k = k σ p (lE n b p) := by
  have hn := hb.1
  have hl := lE_in (n := n) (b := b) (p := p)
  have hl2 := lE_le hb h1
  have hl3 := lE_f hL
  have key := loopI (fun m (_ : Unit) i => f_X2_read_L74 (o + 2) m σ p i k) (fun _ => k σ p (lE n b p)) (fun _ a => a) (fun _ _ => True) (lE n b p - p - 1).toNat (p + 1) (fl := FU) (by show _ < 20000; omega) (a0 := ()) trivial (fun m i a hi ha => ⟨?_, trivial⟩) (fun m a ha => ?_)
  · exact key.1
  · rw [f_X2_read_L74, o_r2 hO, h_isL hO P hb (by omega) (by omega), if_pos (hl.2.1 _ (by omega) (by omega)), if_neg (by decide)]
  · rw [f_X2_read_L74, o_r2 hO, h_isL hO P hb (by omega) (by omega), show p + 1 + (((lE n b p - p - 1).toNat : Nat) : Int) = lE n b p by omega, hl.2.2, if_pos (by decide)]
theorem h_runD (hO : Osh σ o r) (P : TpC σ o n b) (hb : WfB n b) {p : Int} (h0 : 0 ≤ p) (h1 : p ≤ n) (hL : dgt n b p = true) (k : Hp → Int → Int → Int → Option (Unit × Hp)) : f_X2_read_L134 (o + 2) FU σ p (p + 1) 0 k = k σ p (dE n b p) 0 := by
  have hn := hb.1
  have hl := dE_in (n := n) (b := b) (p := p)
  have hl2 := dE_le hb h1
  have hl3 := dE_f hL
  have key := loopI (fun m (_ : Unit) i => f_X2_read_L134 (o + 2) m σ p i 0 k) (fun _ => k σ p (dE n b p) 0) (fun _ a => a) (fun _ _ => True) (dE n b p - p - 1).toNat (p + 1) (fl := FU) (by show _ < 20000; omega) (a0 := ()) trivial (fun m i a hi ha => ⟨?_, trivial⟩) (fun m a ha => ?_)
  · exact key.1
  · rw [f_X2_read_L134, o_r2 hO, h_isD hO P hb (by omega) (by omega), if_pos (hl.2.1 _ (by omega) (by omega)), if_neg (by decide)]
  · rw [f_X2_read_L134, o_r2 hO, h_isD hO P hb (by omega) (by omega), show p + 1 + (((dE n b p - p - 1).toNat : Nat) : Int) = dE n b p by omega, hl.2.2, if_pos (by decide)]
end
