set_option maxRecDepth 100000
set_option maxHeartbeats 4000000
/-! ===== PURE: the deepest that is seen ===== -/
/-- what is looked at, by so many mirrors: a mirror as it was at a minute -/
def Sb (X : Txt) (K : Crt) (m : Int) : Nat → Int → Int → Bool
  | 0, k, t => decide (k = m) && decide (t = kMi K)
  | n + 1, j, u => anyN (fun k => anyN (fun t => (Sb X K m n k t && decide (shw K k t = u)) && ((decide (0 ≤ u) && !decide (j = k)) && decide (kH K j u = kH K k u))) (kMi K + 1).toNat) (xK X).toNat
theorem Sb_s (X : Txt) (K : Crt) (m : Int) (n : Nat) (j u : Int) : Sb X K m (n + 1) j u = true ↔ ∃ k t : Nat, (k : Int) < xK X ∧ (t : Int) ≤ kMi K ∧ Sb X K m n k t = true ∧ shw K k t = u ∧ 0 ≤ u ∧ ¬ j = k ∧ kH K j u = kH K k u := by
  show anyN _ _ = true ↔ _
  rw [anyN_t]
  constructor
  · rintro ⟨k, hk, h⟩
    obtain ⟨t, ht, h2⟩ := anyN_t.mp h
    simp only [Bool.and_eq_true, decide_eq_true_iff, Bool.not_eq_true', decide_eq_false_iff_not] at h2
    exact ⟨k, t, by omega, by omega, h2.1.1, h2.1.2, h2.2.1.1, h2.2.1.2, h2.2.2⟩
  · rintro ⟨k, t, hk, ht, h1, h2, h3, h4, h5⟩
    refine ⟨k, by omega, anyN_t.mpr ⟨t, by omega, ?_⟩⟩
    simp only [Bool.and_eq_true, decide_eq_true_iff, Bool.not_eq_true', decide_eq_false_iff_not]
    exact ⟨⟨h1, h2⟩, ⟨h3, h4⟩, h5⟩
/-- a mirror that shows a minute -/
def Lp (X : Txt) (K : Crt) (m : Int) (n : Nat) (k v : Int) : Prop := (0 ≤ k ∧ k < xK X) ∧ 0 ≤ v ∧ ∃ t : Nat, (t : Int) ≤ kMi K ∧ Sb X K m n k t = true ∧ shw K k t = v
def Vp (X : Txt) (K : Crt) (m : Int) (n : Nat) (v : Int) : Prop := ∃ k : Int, Lp X K m n k v
theorem Lp_s (X : Txt) (K : Crt) (hW : WfK X K) (m : Int) (n : Nat) (j w : Int) : Lp X K m (n + 1) j w ↔ (0 ≤ j ∧ j < xK X) ∧ 0 ≤ w ∧ ∃ k v : Int, Lp X K m n k v ∧ sn K k v j = w := by
  constructor
  · rintro ⟨h0, h1, t, h2, h3, h4⟩
    obtain ⟨k, t', g1, g2, g3, g4, g5, g6, g7⟩ := (Sb_s X K m n j t).mp h3
    refine ⟨h0, h1, k, t, ⟨⟨by omega, g1⟩, g5, t', g2, g3, g4⟩, ?_⟩
    unfold sn
    rw [if_neg (by intro h; rcases h with h | h | h; omega; exact g6 h.symm; exact h g7)]
    exact h4
  · rintro ⟨h0, h1, k, v, ⟨⟨k0, k1⟩, v0, t, g2, g3, g4⟩, h5⟩
    have hv := shw_le hW k0 k1 (t := t) (by omega) g2
    unfold sn at h5
    split at h5
    · omega
    · next hc =>
      refine ⟨h0, h1, v.toNat, by omega, ?_, by rw [show ((v.toNat : Nat) : Int) = v by omega]; exact h5⟩
      rw [show ((v.toNat : Nat) : Int) = v by omega]
      refine (Sb_s X K m n j v).mpr ⟨k.toNat, t, by omega, g2, ?_, ?_, v0, ?_, ?_⟩
      · rw [show ((k.toNat : Nat) : Int) = k by omega]; exact g3
      · rw [show ((k.toNat : Nat) : Int) = k by omega]; exact g4
      · rw [show ((k.toNat : Nat) : Int) = k by omega]; exact fun h => hc (Or.inr (Or.inl h.symm))
      · rw [show ((k.toNat : Nat) : Int) = k by omega]
        exact Classical.byContradiction fun h => hc (Or.inr (Or.inr h))
/-- the least so far, and by how many, with what n shows -/
def UPd (n : Int) (P : Int → Prop) (a0 a : Int × Int) : Prop := a.1 ≤ a0.1 ∧ (∀ v : Int, P v → a.1 ≤ v) ∧ (a = a0 ∨ (P a.1 ∧ a.1 < a0.1 ∧ a.2 = n))
theorem UPd.rf (n : Int) (a : Int × Int) : UPd n (fun _ => False) a a := ⟨Int.le_refl _, fun _ h => h.elim, Or.inl rfl⟩
theorem UPd.st {n : Int} {P : Int → Prop} {a0 a : Int × Int} (h : UPd n P a0 a) (v : Int) : UPd n (fun w => P w ∨ w = v) a0 (if v < a.1 then (v, n) else a) := by
  obtain ⟨h1, h2, h3⟩ := h
  split
  · next c =>
    exact ⟨by show v ≤ a0.1; omega, fun w hw => by rcases hw with hw | hw; have := h2 w hw; show v ≤ w; omega; show v ≤ w; omega, Or.inr ⟨Or.inr rfl, by show v < a0.1; omega, rfl⟩⟩
  · next c =>
    refine ⟨h1, fun w hw => by rcases hw with hw | hw; exact h2 w hw; omega, ?_⟩
    rcases h3 with h3 | ⟨g1, g2, g3⟩
    · exact Or.inl h3
    · exact Or.inr ⟨Or.inl g1, g2, g3⟩
theorem UPd.cg {n : Int} {P Q : Int → Prop} {a0 a : Int × Int} (h : UPd n P a0 a) (e : ∀ v, P v ↔ Q v) : UPd n Q a0 a := by
  obtain ⟨h1, h2, h3⟩ := h
  refine ⟨h1, fun v hv => h2 v ((e v).mpr hv), ?_⟩
  rcases h3 with h3 | ⟨g1, g2, g3⟩
  · exact Or.inl h3
  · exact Or.inr ⟨(e _).mp g1, g2, g3⟩
theorem UPd.uq {n : Int} {P : Int → Prop} {a0 a b : Int × Int} (h : UPd n P a0 a) (g : UPd n P a0 b) : a = b := by
  obtain ⟨h1, h2, h3⟩ := h
  obtain ⟨g1, g2, g3⟩ := g
  rcases h3 with h3 | ⟨p1, p2, p3⟩
  · rcases g3 with g3 | ⟨q1, q2, q3⟩
    · rw [h3, g3]
    · have := h2 _ q1
      rw [h3] at this
      omega
  · rcases g3 with g3 | ⟨q1, q2, q3⟩
    · have := g2 _ p1
      rw [g3] at this
      omega
    · have e1 := h2 _ q1
      have e2 := g2 _ p1
      exact Prod.ext (by omega) (by rw [p3, q3])
def valB (X : Txt) (K : Crt) (m : Int) (n : Nat) (v : Nat) : Bool := anyN (fun k => anyN (fun t => Sb X K m n k t && decide (shw K k t = v)) (kMi K + 1).toNat) (xK X).toNat
theorem valB_iff (X : Txt) (K : Crt) (m : Int) (n v : Nat) : valB X K m n v = true ↔ Vp X K m n v := by
  unfold valB
  rw [anyN_t]
  constructor
  · rintro ⟨k, hk, h⟩
    obtain ⟨t, ht, h2⟩ := anyN_t.mp h
    simp only [Bool.and_eq_true, decide_eq_true_iff] at h2
    exact ⟨k, ⟨by omega, by omega⟩, by omega, t, by omega, h2.1, h2.2⟩
  · rintro ⟨k, ⟨k0, k1⟩, v0, t, g2, g3, g4⟩
    refine ⟨k.toNat, by omega, anyN_t.mpr ⟨t, by omega, ?_⟩⟩
    rw [show ((k.toNat : Nat) : Int) = k by omega]
    simp only [Bool.and_eq_true, decide_eq_true_iff]
    exact ⟨g3, g4⟩
def lvN (X : Txt) (K : Crt) (m : Int) : Nat → Int × Int
  | 0 => (300, 0)
  | n + 1 => match fnd (valB X K m n) 0 300 with
    | some w => if (w : Int) < (lvN X K m n).1 then ((w : Int), (n : Int) + 1) else lvN X K m n
    | none => lvN X K m n
theorem lv_up {X : Txt} {K : Crt} (hW : WfK X K) (m : Int) (n : Nat) : UPd ((n : Int) + 1) (Vp X K m n) (lvN X K m n) (lvN X K m (n + 1)) := by
  have a2 := hW.1
  have hVin : ∀ v : Int, Vp X K m n v → 0 ≤ v ∧ v < 300 := by
    rintro v ⟨k, ⟨k0, k1⟩, v0, t, g2, g3, g4⟩
    have := shw_le hW k0 k1 (t := t) (by omega) g2
    omega
  rw [lvN]
  cases hf : fnd (valB X K m n) 0 300 with
  | none =>
    have hn := fnd_n.mp hf
    refine ⟨Int.le_refl _, fun v hv => ?_, Or.inl rfl⟩
    have hi := hVin v hv
    have := hn v.toNat (Nat.zero_le _) (by omega)
    have h2 := (valB_iff X K m n v.toNat).mpr (by rw [show ((v.toNat : Nat) : Int) = v by omega]; exact hv)
    rw [this] at h2
    cases h2
  | some w =>
    obtain ⟨g1, g2, g3⟩ := fnd_s hf
    have hw := (valB_iff X K m n w).mp g2
    have hmin : ∀ v : Int, Vp X K m n v → (w : Int) ≤ v := fun v hv => by
      have hi := hVin v hv
      by_cases c : v < w
      · have := g3 v.toNat (Nat.zero_le _) (by omega)
        have h2 := (valB_iff X K m n v.toNat).mpr (by rw [show ((v.toNat : Nat) : Int) = v by omega]; exact hv)
        rw [this] at h2
        cases h2
      · omega
    dsimp only
    split
    · next c => exact ⟨by show (w : Int) ≤ _; omega, hmin, Or.inr ⟨hw, c, rfl⟩⟩
    · next c => exact ⟨Int.le_refl _, fun v hv => by have := hmin v hv; omega, Or.inl rfl⟩
theorem lv_in (X : Txt) (K : Crt) (m : Int) : ∀ n : Nat, 0 ≤ (lvN X K m n).1 ∧ (lvN X K m n).1 ≤ 300 ∧ 0 ≤ (lvN X K m n).2 ∧ (lvN X K m n).2 ≤ n := by
  intro n
  induction n with
  | zero => exact ⟨show (0 : Int) ≤ 300 by decide, show (300 : Int) ≤ 300 by decide, Int.le_refl _, Int.le_refl _⟩
  | succ n ih =>
    rw [lvN]
    cases hf : fnd (valB X K m n) 0 300 with
    | none => dsimp only; omega
    | some w =>
      obtain ⟨g1, g2, g3⟩ := fnd_s hf
      dsimp only
      split
      · dsimp only; omega
      · omega
def q_deepest (X : Txt) (K : Crt) (x z : Int) : Int := if (0 ≤ x ∧ x < xK X) ∧ (0 ≤ z ∧ z ≤ 1) then (if (lvN X K x 4).1 = 300 then -2 else if z = 0 then (lvN X K x 4).1 else (lvN X K x 4).2) else -1
