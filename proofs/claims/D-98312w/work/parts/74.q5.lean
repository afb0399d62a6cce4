set_option maxRecDepth 100000
set_option maxHeartbeats 4000000
theorem sl1 {m : Int} (h0 : 0 ≤ m) (h1 : m < 31) : slI 1 m = ((2 ^ m.toNat : Nat) : Int) := by
  have := slI_1 m.toNat (by omega)
  rw [show ((m.toNat : Nat) : Int) = m by omega] at this
  exact this
theorem pw_le {m : Int} (h1 : m < 9) : ((2 ^ m.toNat : Nat) : Int) ≤ 256 := by
  have : 2 ^ m.toNat ≤ 2 ^ 8 := Nat.pow_le_pow_right (by decide) (by omega)
  omega
theorem n_pw {m : Int} (h1 : m < 9) : nrm ((2 ^ m.toNat : Nat) : Int) = ((2 ^ m.toNat : Nat) : Int) := by
  have := pw_le h1
  exact nrm_i (Int.le_trans (by decide) (Int.natCast_nonneg _)) (Int.le_trans this (by decide))
theorem pc1 : ∀ m : Nat, m < 6 → ∀ x : Nat, x < 64 → x.testBit m = true → (pcn x = 1 ↔ x = 2 ^ m) := by decide +kernel
theorem mIn_self {X : Txt} {K : Crt} (hX : WfX X) {m t : Int} (h0 : 0 ≤ m) (h1 : m < xM X) : (mIn X K (kW K m t) t).testBit m.toNat = true := by
  unfold mIn
  rw [ms_bit]
  have e : ((m.toNat : Nat) : Int) = m := by omega
  rw [e]
  simp
  omega
def alB (X : Txt) (K : Crt) (m t : Int) : Bool := decide (mIn X K (kW K m t) t = 2 ^ m.toNat)
def alG (X : Txt) (K : Crt) (m : Int) (u : Nat) (q : Int × Int × Int) : Int × Int × Int := if alB X K m u = true then (q.1 + 1, q.2.1 + 1, if q.2.2 < q.2.1 + 1 then q.2.1 + 1 else q.2.2) else (q.1, 0, q.2.2)
def alT (X : Txt) (K : Crt) (m : Int) : Int × Int × Int := itr (alG X K m) (kMi K + 1).toNat (0, 0, 0)
def q_alone (X : Txt) (K : Crt) (x z : Int) : Int := if 0 ≤ x ∧ x < xM X then (if z = 0 then (alT X K x).1 else (alT X K x).2.2) else -1
theorem al_P {X : Txt} {K : Crt} (m : Int) : ∀ n : Nat, (0 ≤ (itr (alG X K m) n (0, 0, 0)).1 ∧ (itr (alG X K m) n (0, 0, 0)).1 ≤ n) ∧ (0 ≤ (itr (alG X K m) n (0, 0, 0)).2.1 ∧ (itr (alG X K m) n (0, 0, 0)).2.1 ≤ n) ∧ (0 ≤ (itr (alG X K m) n (0, 0, 0)).2.2 ∧ (itr (alG X K m) n (0, 0, 0)).2.2 ≤ n) := by
  intro n
  induction n with
  | zero => exact ⟨⟨Int.le_refl _, Int.le_refl _⟩, ⟨Int.le_refl _, Int.le_refl _⟩, Int.le_refl _, Int.le_refl _⟩
  | succ n ih =>
    rw [itr, alG]
    split
    · dsimp only
      split <;> omega
    · dsimp only
      omega
/-- the best of the first n + 1 -/
def amx (f : Nat → Int) : Nat → Nat
  | 0 => 0
  | n + 1 => if f (amx f n) < f (n + 1) then n + 1 else amx f n
theorem amx_le (f : Nat → Int) : ∀ n : Nat, amx f n ≤ n := by
  intro n
  induction n with
  | zero => exact Nat.le_refl _
  | succ n ih => rw [amx]; split <;> omega
def q_lonely (X : Txt) (K : Crt) : Int := if xM X = 0 then -2 else (amx (fun m => (alT X K m).1) ((xM X).toNat - 1) : Nat)
section
variable {Z : Nat → Prop} {σ : Hp} {o r : Nat} {X : Txt} {K : Crt} {β : Type}
theorem hb_isAlone (I : QI Z σ o r X K) {m t : Int} (h0 : 0 ≤ m) (h1 : m < xM X) (t0 : 0 ≤ t) (t1 : t ≤ kMi K) (f : Int → Hp → Option β) : bn (f_X0_isAlone σ o m t) f = f (if alB X K m t = true then 1 else 0) σ := by
  obtain ⟨hO, hx, hZ, hK, hX, hW⟩ := I
  have I : QI Z σ o r X K := ⟨hO, hx, hZ, hK, hX, hW⟩
  have J := I.ci
  have hc := hO.court
  have a0 := hX.1
  have a1 := hX.2.2.1
  have a4 := hX.2.2.2.1
  have a2 := hW.1
  refine bnP ?_ f
  have hw := (hW.2.1 m t h0 h1 t0 t1).1
  have hp := pw_le (m := m) (by omega)
  have hm := mIn_lt X hX K (kW K m t) t
  unfold f_X0_isAlone alB
  by_cases e : mIn X K (kW K m t) t = 2 ^ m.toNat
  · simp (disch := omega) only [↓reduceIte, Bool.false_eq_true, nrm_i, ltT, ltF, leT, leF, eqT, eqF, not_true_eq_false, not_false_eq_true, and_self, and_true, true_and, false_and, and_false, or_true, true_or, or_false, false_or, ↓btS, ↓bnS, ↓bdS, ↓jnS, ↓obS, n_W hX hW, n_R hW, n_H hX hW, n_U hW, n_L hW, n_B hW, n_S hW, n_M hX, n_Ms hX, n_P, ↓i_t, ↓i_f, ↓man_t I, ↓man_f I, ↓room_t I, ↓room_f I, ↓mir_t I, ↓mir_f I, ↓pas_t I, ↓pas_f I, ↓h_men I, ↓h_rooms I, ↓h_mirrors I, ↓o_rcv hO, ↓o_gI hO, ↓o_g3 hO, ↓o_g7 hO, ↓o_g8 hO, ↓o_g12 hO, ↓c_ob hc, ↓cb_mi J, ↓c_g0b hc, ↓c_g1b hc, ↓c_g2b hc, ↓c_g3b hc, ↓c_g4b hc, ↓c_r0b hc, ↓c_r1b hc, ↓c_r2b hc, ↓c_r3b hc, ↓c_r4b hc, ↓cb_W J, ↓cb_R J, ↓cb_H J, ↓cb_U J, ↓cb_L J, ↓hb_shows J, ↓hb_menIn J, ↓hb_menShown J, ↓hb_isBroken J, ↓hb_bits, sl1, n_pw, e, decide_true]
  · have e2 : ¬ ((mIn X K (kW K m t) t : Nat) : Int) = ((2 ^ m.toNat : Nat) : Int) := by omega
    simp (disch := omega) only [↓reduceIte, Bool.false_eq_true, nrm_i, ltT, ltF, leT, leF, eqT, eqF, not_true_eq_false, not_false_eq_true, and_self, and_true, true_and, false_and, and_false, or_true, true_or, or_false, false_or, ↓btS, ↓bnS, ↓bdS, ↓jnS, ↓obS, n_W hX hW, n_R hW, n_H hX hW, n_U hW, n_L hW, n_B hW, n_S hW, n_M hX, n_Ms hX, n_P, ↓i_t, ↓i_f, ↓man_t I, ↓man_f I, ↓room_t I, ↓room_f I, ↓mir_t I, ↓mir_f I, ↓pas_t I, ↓pas_f I, ↓h_men I, ↓h_rooms I, ↓h_mirrors I, ↓o_rcv hO, ↓o_gI hO, ↓o_g3 hO, ↓o_g7 hO, ↓o_g8 hO, ↓o_g12 hO, ↓c_ob hc, ↓cb_mi J, ↓c_g0b hc, ↓c_g1b hc, ↓c_g2b hc, ↓c_g3b hc, ↓c_g4b hc, ↓c_r0b hc, ↓c_r1b hc, ↓c_r2b hc, ↓c_r3b hc, ↓c_r4b hc, ↓cb_W J, ↓cb_R J, ↓cb_H J, ↓cb_U J, ↓cb_L J, ↓hb_shows J, ↓hb_menIn J, ↓hb_menShown J, ↓hb_isBroken J, ↓hb_bits, sl1, n_pw, e, e2, decide_false]
theorem h_alone (I : QI Z σ o r X K) {x z : Int} (wx : wd x) (hz : z = 0 ∨ z = 1) : f_X0_alone σ o x z = some (q_alone X K x z, σ) := by
  obtain ⟨hO, hx, hZ, hK, hX, hW⟩ := I
  have I : QI Z σ o r X K := ⟨hO, hx, hZ, hK, hX, hW⟩
  have J := I.ci
  have hc := hO.court
  have a0 := hX.1
  have a1 := hX.2.2.1
  have a4 := hX.2.2.2.1
  have a2 := hW.1
  unfold f_X0_alone q_alone
  by_cases c1 : 0 ≤ x ∧ x < xM X
  · simp (disch := omega) only [↓reduceIte, Bool.false_eq_true, nrm_i, ltT, ltF, leT, leF, eqT, eqF, not_true_eq_false, not_false_eq_true, and_self, and_true, true_and, false_and, and_false, or_true, true_or, or_false, false_or, ↓btS, ↓bnS, ↓bdS, ↓jnS, ↓obS, n_W hX hW, n_R hW, n_H hX hW, n_U hW, n_L hW, n_B hW, n_S hW, n_M hX, n_Ms hX, n_P, ↓i_t, ↓i_f, ↓man_t I, ↓man_f I, ↓room_t I, ↓room_f I, ↓mir_t I, ↓mir_f I, ↓pas_t I, ↓pas_f I, ↓h_men I, ↓h_rooms I, ↓h_mirrors I, ↓o_rcv hO, ↓o_gI hO, ↓o_g3 hO, ↓o_g7 hO, ↓o_g8 hO, ↓o_g12 hO, ↓c_ob hc, ↓cb_mi J, ↓c_g0b hc, ↓c_g1b hc, ↓c_g2b hc, ↓c_g3b hc, ↓c_g4b hc, ↓c_r0b hc, ↓c_r1b hc, ↓c_r2b hc, ↓c_r3b hc, ↓c_r4b hc, ↓cb_W J, ↓cb_R J, ↓cb_H J, ↓cb_U J, ↓cb_L J, ↓hb_shows J, ↓hb_menIn J, ↓hb_menShown J, ↓hb_isBroken J, ↓hb_bits, c1]
    obtain ⟨e, p⟩ := loopI (fun n (a : Int × Int × Int) i => f_X0_alone_L21 o n σ x z a.1 a.2.1 a.2.2 i (fun s14 x2 x3 x5 => (if nrm x2 = 0 then (some (nrm x3, s14)) else (some (nrm x5, s14))))) (fun a => if nrm z = 0 then some (nrm a.1, σ) else some (nrm a.2.2, σ)) (alG X K x) (fun i a => (0 ≤ a.1 ∧ a.1 ≤ i) ∧ (0 ≤ a.2.1 ∧ a.2.1 ≤ i) ∧ (0 ≤ a.2.2 ∧ a.2.2 ≤ i)) (kMi K + 1).toNat 0 (fl := FU) (a0 := (0, 0, 0)) (by rw [FU_eq]; omega) ⟨⟨by decide, by decide⟩, ⟨by decide, by decide⟩, by decide, by decide⟩ (fun n i a hi hp => by
        try dsimp only
        rw [f_X0_alone_L21, Int.zero_add]
        unfold alG mxI
        by_cases c5 : alB X K x i = true
        · by_cases c6 : a.2.2 < a.2.1 + 1
          · exact ⟨by simp (disch := omega) only [↓reduceIte, Bool.false_eq_true, nrm_i, ltT, ltF, leT, leF, eqT, eqF, not_true_eq_false, not_false_eq_true, and_self, and_true, true_and, false_and, and_false, or_true, true_or, or_false, false_or, ↓btS, ↓bnS, ↓bdS, ↓jnS, ↓obS, n_W hX hW, n_R hW, n_H hX hW, n_U hW, n_L hW, n_B hW, n_S hW, n_M hX, n_Ms hX, n_P, ↓i_t, ↓i_f, ↓man_t I, ↓man_f I, ↓room_t I, ↓room_f I, ↓mir_t I, ↓mir_f I, ↓pas_t I, ↓pas_f I, ↓h_men I, ↓h_rooms I, ↓h_mirrors I, ↓o_rcv hO, ↓o_gI hO, ↓o_g3 hO, ↓o_g7 hO, ↓o_g8 hO, ↓o_g12 hO, ↓c_ob hc, ↓cb_mi J, ↓c_g0b hc, ↓c_g1b hc, ↓c_g2b hc, ↓c_g3b hc, ↓c_g4b hc, ↓c_r0b hc, ↓c_r1b hc, ↓c_r2b hc, ↓c_r3b hc, ↓c_r4b hc, ↓cb_W J, ↓cb_R J, ↓cb_H J, ↓cb_U J, ↓cb_L J, ↓hb_shows J, ↓hb_menIn J, ↓hb_menShown J, ↓hb_isBroken J, ↓hb_bits, ↓hb_isAlone I, c5, c6], by simp (disch := omega) only [↓reduceIte, Bool.false_eq_true, nrm_i, ltT, ltF, leT, leF, eqT, eqF, not_true_eq_false, not_false_eq_true, and_self, and_true, true_and, false_and, and_false, or_true, true_or, or_false, false_or, ↓btS, ↓bnS, ↓bdS, ↓jnS, ↓obS, c5, c6] <;> omega⟩
          · exact ⟨by simp (disch := omega) only [↓reduceIte, Bool.false_eq_true, nrm_i, ltT, ltF, leT, leF, eqT, eqF, not_true_eq_false, not_false_eq_true, and_self, and_true, true_and, false_and, and_false, or_true, true_or, or_false, false_or, ↓btS, ↓bnS, ↓bdS, ↓jnS, ↓obS, n_W hX hW, n_R hW, n_H hX hW, n_U hW, n_L hW, n_B hW, n_S hW, n_M hX, n_Ms hX, n_P, ↓i_t, ↓i_f, ↓man_t I, ↓man_f I, ↓room_t I, ↓room_f I, ↓mir_t I, ↓mir_f I, ↓pas_t I, ↓pas_f I, ↓h_men I, ↓h_rooms I, ↓h_mirrors I, ↓o_rcv hO, ↓o_gI hO, ↓o_g3 hO, ↓o_g7 hO, ↓o_g8 hO, ↓o_g12 hO, ↓c_ob hc, ↓cb_mi J, ↓c_g0b hc, ↓c_g1b hc, ↓c_g2b hc, ↓c_g3b hc, ↓c_g4b hc, ↓c_r0b hc, ↓c_r1b hc, ↓c_r2b hc, ↓c_r3b hc, ↓c_r4b hc, ↓cb_W J, ↓cb_R J, ↓cb_H J, ↓cb_U J, ↓cb_L J, ↓hb_shows J, ↓hb_menIn J, ↓hb_menShown J, ↓hb_isBroken J, ↓hb_bits, ↓hb_isAlone I, c5, c6], by simp (disch := omega) only [↓reduceIte, Bool.false_eq_true, nrm_i, ltT, ltF, leT, leF, eqT, eqF, not_true_eq_false, not_false_eq_true, and_self, and_true, true_and, false_and, and_false, or_true, true_or, or_false, false_or, ↓btS, ↓bnS, ↓bdS, ↓jnS, ↓obS, c5, c6] <;> omega⟩
        · exact ⟨by simp (disch := omega) only [↓reduceIte, Bool.false_eq_true, nrm_i, ltT, ltF, leT, leF, eqT, eqF, not_true_eq_false, not_false_eq_true, and_self, and_true, true_and, false_and, and_false, or_true, true_or, or_false, false_or, ↓btS, ↓bnS, ↓bdS, ↓jnS, ↓obS, n_W hX hW, n_R hW, n_H hX hW, n_U hW, n_L hW, n_B hW, n_S hW, n_M hX, n_Ms hX, n_P, ↓i_t, ↓i_f, ↓man_t I, ↓man_f I, ↓room_t I, ↓room_f I, ↓mir_t I, ↓mir_f I, ↓pas_t I, ↓pas_f I, ↓h_men I, ↓h_rooms I, ↓h_mirrors I, ↓o_rcv hO, ↓o_gI hO, ↓o_g3 hO, ↓o_g7 hO, ↓o_g8 hO, ↓o_g12 hO, ↓c_ob hc, ↓cb_mi J, ↓c_g0b hc, ↓c_g1b hc, ↓c_g2b hc, ↓c_g3b hc, ↓c_g4b hc, ↓c_r0b hc, ↓c_r1b hc, ↓c_r2b hc, ↓c_r3b hc, ↓c_r4b hc, ↓cb_W J, ↓cb_R J, ↓cb_H J, ↓cb_U J, ↓cb_L J, ↓hb_shows J, ↓hb_menIn J, ↓hb_menShown J, ↓hb_isBroken J, ↓hb_bits, ↓hb_isAlone I, c5, Int.add_zero], by simp (disch := omega) only [↓reduceIte, Bool.false_eq_true, nrm_i, ltT, ltF, leT, leF, eqT, eqF, not_true_eq_false, not_false_eq_true, and_self, and_true, true_and, false_and, and_false, or_true, true_or, or_false, false_or, ↓btS, ↓bnS, ↓bdS, ↓jnS, ↓obS, c5] <;> omega⟩)
      (fun n a hp => by
        try dsimp only
        rw [f_X0_alone_L21]
        simp (disch := omega) only [↓reduceIte, Bool.false_eq_true, nrm_i, ltT, ltF, leT, leF, eqT, eqF, not_true_eq_false, not_false_eq_true, and_self, and_true, true_and, false_and, and_false, or_true, true_or, or_false, false_or, ↓btS, ↓bnS, ↓bdS, ↓jnS, ↓obS, n_W hX hW, n_R hW, n_H hX hW, n_U hW, n_L hW, n_B hW, n_S hW, n_M hX, n_Ms hX, n_P, ↓i_t, ↓i_f, ↓man_t I, ↓man_f I, ↓room_t I, ↓room_f I, ↓mir_t I, ↓mir_f I, ↓pas_t I, ↓pas_f I, ↓h_men I, ↓h_rooms I, ↓h_mirrors I, ↓o_rcv hO, ↓o_gI hO, ↓o_g3 hO, ↓o_g7 hO, ↓o_g8 hO, ↓o_g12 hO, ↓c_ob hc, ↓cb_mi J, ↓c_g0b hc, ↓c_g1b hc, ↓c_g2b hc, ↓c_g3b hc, ↓c_g4b hc, ↓c_r0b hc, ↓c_r1b hc, ↓c_r2b hc, ↓c_r3b hc, ↓c_r4b hc, ↓cb_W J, ↓cb_R J, ↓cb_H J, ↓cb_U J, ↓cb_L J, ↓hb_shows J, ↓hb_menIn J, ↓hb_menShown J, ↓hb_isBroken J, ↓hb_bits])
    unfold alT
    rcases hz with rfl | rfl
    · rw [e]; simp (disch := omega) only [↓reduceIte, Bool.false_eq_true, nrm_i, ltT, ltF, leT, leF, eqT, eqF, not_true_eq_false, not_false_eq_true, and_self, and_true, true_and, false_and, and_false, or_true, true_or, or_false, false_or, ↓btS, ↓bnS, ↓bdS, ↓jnS, ↓obS]
    · rw [e]; simp (disch := omega) only [↓reduceIte, Bool.false_eq_true, nrm_i, ltT, ltF, leT, leF, eqT, eqF, not_true_eq_false, not_false_eq_true, and_self, and_true, true_and, false_and, and_false, or_true, true_or, or_false, false_or, ↓btS, ↓bnS, ↓bdS, ↓jnS, ↓obS]
  · simp (disch := omega) only [↓reduceIte, Bool.false_eq_true, nrm_i, ltT, ltF, leT, leF, eqT, eqF, not_true_eq_false, not_false_eq_true, and_self, and_true, true_and, false_and, and_false, or_true, true_or, or_false, false_or, ↓btS, ↓bnS, ↓bdS, ↓jnS, ↓obS, n_W hX hW, n_R hW, n_H hX hW, n_U hW, n_L hW, n_B hW, n_S hW, n_M hX, n_Ms hX, n_P, ↓i_t, ↓i_f, ↓man_t I, ↓man_f I, ↓room_t I, ↓room_f I, ↓mir_t I, ↓mir_f I, ↓pas_t I, ↓pas_f I, ↓h_men I, ↓h_rooms I, ↓h_mirrors I, ↓o_rcv hO, ↓o_gI hO, ↓o_g3 hO, ↓o_g7 hO, ↓o_g8 hO, ↓o_g12 hO, ↓c_ob hc, ↓cb_mi J, ↓c_g0b hc, ↓c_g1b hc, ↓c_g2b hc, ↓c_g3b hc, ↓c_g4b hc, ↓c_r0b hc, ↓c_r1b hc, ↓c_r2b hc, ↓c_r3b hc, ↓c_r4b hc, ↓cb_W J, ↓cb_R J, ↓cb_H J, ↓cb_U J, ↓cb_L J, ↓hb_shows J, ↓hb_menIn J, ↓hb_menShown J, ↓hb_isBroken J, ↓hb_bits, c1]
theorem h_lonely (I : QI Z σ o r X K) : f_X0_lonely σ o = some (q_lonely X K, σ) := by
  obtain ⟨hO, hx, hZ, hK, hX, hW⟩ := I
  have I : QI Z σ o r X K := ⟨hO, hx, hZ, hK, hX, hW⟩
  have J := I.ci
  have hc := hO.court
  have a0 := hX.1
  have a1 := hX.2.2.1
  have a4 := hX.2.2.2.1
  have a2 := hW.1
  unfold f_X0_lonely q_lonely
  have hal : ∀ {x : Int}, 0 ≤ x → x < xM X → ∀ {β : Type} (f : Int → Hp → Option β), bn (f_X0_alone σ o x 0) f = f (alT X K x).1 σ := by
    intro x h0 h1 β f
    refine bnP ?_ f
    rw [h_alone I (by omega) (Or.inl rfl)]
    unfold q_alone
    simp (disch := omega) only [↓reduceIte, Bool.false_eq_true, nrm_i, ltT, ltF, leT, leF, eqT, eqF, not_true_eq_false, not_false_eq_true, and_self, and_true, true_and, false_and, and_false, or_true, true_or, or_false, false_or, ↓btS, ↓bnS, ↓bdS, ↓jnS, ↓obS, h0, h1]
  have hal1 : ∀ x : Int, nrm (alT X K x).1 = (alT X K x).1 := fun x => by
    have := al_P (X := X) (K := K) x (kMi K + 1).toNat
    unfold alT
    exact nrm_i (by omega) (by omega)
  refine loop (S := Int × Int) (fun n q => f_X0_lonely_L5 o n σ q.1 q.2 (fun s13 x1 => some (nrm x1, s13))) (· = some (if xM X = 0 then -2 else (amx (fun m => (alT X K m).1) ((xM X).toNat - 1) : Int), σ)) (fun i q => q = (if i = 0 then -2 else (amx (fun m => (alT X K m).1) (i - 1) : Int), (i : Int))) (xM X).toNat ?_ ?_ (xM X).toNat 0 FU (-2, 0) (by omega) (by rw [FU_eq]; omega) rfl
  · rintro n i ⟨p, q⟩ hi he
    cases he
    right
    refine ⟨(if i + 1 = 0 then -2 else (amx (fun m => (alT X K m).1) (i + 1 - 1) : Int), ((i + 1 : Nat) : Int)), ?_, rfl⟩
    dsimp only
    rw [f_X0_lonely_L5]
    cases i with
    | zero => simp (disch := omega) only [↓reduceIte, Bool.false_eq_true, nrm_i, ltT, ltF, leT, leF, eqT, eqF, not_true_eq_false, not_false_eq_true, and_self, and_true, true_and, false_and, and_false, or_true, true_or, or_false, false_or, ↓btS, ↓bnS, ↓bdS, ↓jnS, ↓obS, n_W hX hW, n_R hW, n_H hX hW, n_U hW, n_L hW, n_B hW, n_S hW, n_M hX, n_Ms hX, n_P, ↓i_t, ↓i_f, ↓man_t I, ↓man_f I, ↓room_t I, ↓room_f I, ↓mir_t I, ↓mir_f I, ↓pas_t I, ↓pas_f I, ↓h_men I, ↓h_rooms I, ↓h_mirrors I, ↓o_rcv hO, ↓o_gI hO, ↓o_g3 hO, ↓o_g7 hO, ↓o_g8 hO, ↓o_g12 hO, ↓c_ob hc, ↓cb_mi J, ↓c_g0b hc, ↓c_g1b hc, ↓c_g2b hc, ↓c_g3b hc, ↓c_g4b hc, ↓c_r0b hc, ↓c_r1b hc, ↓c_r2b hc, ↓c_r3b hc, ↓c_r4b hc, ↓cb_W J, ↓cb_R J, ↓cb_H J, ↓cb_U J, ↓cb_L J, ↓hb_shows J, ↓hb_menIn J, ↓hb_menShown J, ↓hb_isBroken J, ↓hb_bits, Nat.zero_add]; rfl
    | succ i =>
      have hle := amx_le (fun m => (alT X K m).1) i
      rw [if_neg (show ¬ i + 1 = 0 by omega), if_neg (show ¬ i + 1 + 1 = 0 by omega), Nat.add_sub_cancel, Nat.add_sub_cancel, amx]
      by_cases c : (alT X K (amx (fun m => (alT X K m).1) i : Nat)).1 < (alT X K (i + 1 : Nat)).1
      · rw [if_pos c]
        simp (disch := omega) only [↓reduceIte, Bool.false_eq_true, nrm_i, ltT, ltF, leT, leF, eqT, eqF, not_true_eq_false, not_false_eq_true, and_self, and_true, true_and, false_and, and_false, or_true, true_or, or_false, false_or, ↓btS, ↓bnS, ↓bdS, ↓jnS, ↓obS, n_W hX hW, n_R hW, n_H hX hW, n_U hW, n_L hW, n_B hW, n_S hW, n_M hX, n_Ms hX, n_P, ↓i_t, ↓i_f, ↓man_t I, ↓man_f I, ↓room_t I, ↓room_f I, ↓mir_t I, ↓mir_f I, ↓pas_t I, ↓pas_f I, ↓h_men I, ↓h_rooms I, ↓h_mirrors I, ↓o_rcv hO, ↓o_gI hO, ↓o_g3 hO, ↓o_g7 hO, ↓o_g8 hO, ↓o_g12 hO, ↓c_ob hc, ↓cb_mi J, ↓c_g0b hc, ↓c_g1b hc, ↓c_g2b hc, ↓c_g3b hc, ↓c_g4b hc, ↓c_r0b hc, ↓c_r1b hc, ↓c_r2b hc, ↓c_r3b hc, ↓c_r4b hc, ↓cb_W J, ↓cb_R J, ↓cb_H J, ↓cb_U J, ↓cb_L J, ↓hb_shows J, ↓hb_menIn J, ↓hb_menShown J, ↓hb_isBroken J, ↓hb_bits, ↓hal, hal1]
        rfl
      · rw [if_neg c]
        simp (disch := omega) only [↓reduceIte, Bool.false_eq_true, nrm_i, ltT, ltF, leT, leF, eqT, eqF, not_true_eq_false, not_false_eq_true, and_self, and_true, true_and, false_and, and_false, or_true, true_or, or_false, false_or, ↓btS, ↓bnS, ↓bdS, ↓jnS, ↓obS, n_W hX hW, n_R hW, n_H hX hW, n_U hW, n_L hW, n_B hW, n_S hW, n_M hX, n_Ms hX, n_P, ↓i_t, ↓i_f, ↓man_t I, ↓man_f I, ↓room_t I, ↓room_f I, ↓mir_t I, ↓mir_f I, ↓pas_t I, ↓pas_f I, ↓h_men I, ↓h_rooms I, ↓h_mirrors I, ↓o_rcv hO, ↓o_gI hO, ↓o_g3 hO, ↓o_g7 hO, ↓o_g8 hO, ↓o_g12 hO, ↓c_ob hc, ↓cb_mi J, ↓c_g0b hc, ↓c_g1b hc, ↓c_g2b hc, ↓c_g3b hc, ↓c_g4b hc, ↓c_r0b hc, ↓c_r1b hc, ↓c_r2b hc, ↓c_r3b hc, ↓c_r4b hc, ↓cb_W J, ↓cb_R J, ↓cb_H J, ↓cb_U J, ↓cb_L J, ↓hb_shows J, ↓hb_menIn J, ↓hb_menShown J, ↓hb_isBroken J, ↓hb_bits, ↓hal, hal1]
        rfl
  · rintro n ⟨p, q⟩ he
    cases he
    dsimp only
    have hle := amx_le (fun m => (alT X K m).1) ((xM X).toNat - 1)
    rw [f_X0_lonely_L5]
    by_cases c : xM X = 0
    · have : (xM X).toNat = 0 := by omega
      simp (disch := omega) only [↓reduceIte, Bool.false_eq_true, nrm_i, ltT, ltF, leT, leF, eqT, eqF, not_true_eq_false, not_false_eq_true, and_self, and_true, true_and, false_and, and_false, or_true, true_or, or_false, false_or, ↓btS, ↓bnS, ↓bdS, ↓jnS, ↓obS, n_W hX hW, n_R hW, n_H hX hW, n_U hW, n_L hW, n_B hW, n_S hW, n_M hX, n_Ms hX, n_P, ↓i_t, ↓i_f, ↓man_t I, ↓man_f I, ↓room_t I, ↓room_f I, ↓mir_t I, ↓mir_f I, ↓pas_t I, ↓pas_f I, ↓h_men I, ↓h_rooms I, ↓h_mirrors I, ↓o_rcv hO, ↓o_gI hO, ↓o_g3 hO, ↓o_g7 hO, ↓o_g8 hO, ↓o_g12 hO, ↓c_ob hc, ↓cb_mi J, ↓c_g0b hc, ↓c_g1b hc, ↓c_g2b hc, ↓c_g3b hc, ↓c_g4b hc, ↓c_r0b hc, ↓c_r1b hc, ↓c_r2b hc, ↓c_r3b hc, ↓c_r4b hc, ↓cb_W J, ↓cb_R J, ↓cb_H J, ↓cb_U J, ↓cb_L J, ↓hb_shows J, ↓hb_menIn J, ↓hb_menShown J, ↓hb_isBroken J, ↓hb_bits, this]
    · have : ¬ (xM X).toNat = 0 := by omega
      simp (disch := omega) only [↓reduceIte, Bool.false_eq_true, nrm_i, ltT, ltF, leT, leF, eqT, eqF, not_true_eq_false, not_false_eq_true, and_self, and_true, true_and, false_and, and_false, or_true, true_or, or_false, false_or, ↓btS, ↓bnS, ↓bdS, ↓jnS, ↓obS, n_W hX hW, n_R hW, n_H hX hW, n_U hW, n_L hW, n_B hW, n_S hW, n_M hX, n_Ms hX, n_P, ↓i_t, ↓i_f, ↓man_t I, ↓man_f I, ↓room_t I, ↓room_f I, ↓mir_t I, ↓mir_f I, ↓pas_t I, ↓pas_f I, ↓h_men I, ↓h_rooms I, ↓h_mirrors I, ↓o_rcv hO, ↓o_gI hO, ↓o_g3 hO, ↓o_g7 hO, ↓o_g8 hO, ↓o_g12 hO, ↓c_ob hc, ↓cb_mi J, ↓c_g0b hc, ↓c_g1b hc, ↓c_g2b hc, ↓c_g3b hc, ↓c_g4b hc, ↓c_r0b hc, ↓c_r1b hc, ↓c_r2b hc, ↓c_r3b hc, ↓c_r4b hc, ↓cb_W J, ↓cb_R J, ↓cb_H J, ↓cb_U J, ↓cb_L J, ↓hb_shows J, ↓hb_menIn J, ↓hb_menShown J, ↓hb_isBroken J, ↓hb_bits, this]
end
section
variable {s : TW} {X : Txt} {K : Crt} {β : Type}
theorem tb_isAlone (J : TI s X K) {m t : Int} (h0 : 0 ≤ m) (h1 : m < xM X) (t0 : 0 ≤ t) (t1 : t ≤ kMi K) (f : Int → TW → Option β) : bt_ (f_X8_isAlone s m t) f = f (if alB X K m t = true then 1 else 0) s := by
  have hX := J.1
  have hW := J.2.2.2
  have a0 := hX.1
  have a1 := hX.2.2.1
  have a4 := hX.2.2.2.1
  have a2 := hW.1
  have b3 := J.2.1.1
  have jmi := J.mi
  refine btP ?_ f
  have hw := (hW.2.1 m t h0 h1 t0 t1).1
  have hm := mIn_lt X hX K (kW K m t) t
  have hq := pc1 m.toNat (by omega) _ hm (mIn_self hX h0 h1)
  unfold f_X8_isAlone alB
  by_cases e : mIn X K (kW K m t) t = 2 ^ m.toNat
  · have e2 := hq.mpr e
    have e3 := decide_eq_true e
    simp (disch := omega) only [↓reduceIte, Bool.false_eq_true, nrm_i, ltT, ltF, leT, leF, eqT, eqF, not_true_eq_false, not_false_eq_true, and_self, and_true, true_and, false_and, and_false, or_true, true_or, or_false, false_or, ↓btS, ↓bnS, ↓bdS, ↓jnS, ↓obS, n_W hX hW, n_R hW, n_H hX hW, n_U hW, n_L hW, n_B hW, n_S hW, n_M hX, n_Ms hX, n_P, J.mi, ↓ti_t, ↓ti_f, ↓tv_W J, ↓tv_L J, ↓tv_B J, ↓tb56, w_W J, w_R J, w_L J, ↓tb_menIn J, ↓tb_showsAt J, ↓tb_hungIn J, ↓tb_isTurned J, ↓tb_menShown J, ↓tb_menShown2 J, ↓tb_bits, ↓tz_R J.2.1, ↓tz_M J.2.1, ↓tz_K J.2.1, e2, e3]
  · have e2 : ¬ pcn (mIn X K (kW K m t) t) = 1 := fun h => e (hq.mp h)
    simp (disch := omega) only [↓reduceIte, Bool.false_eq_true, nrm_i, ltT, ltF, leT, leF, eqT, eqF, not_true_eq_false, not_false_eq_true, and_self, and_true, true_and, false_and, and_false, or_true, true_or, or_false, false_or, ↓btS, ↓bnS, ↓bdS, ↓jnS, ↓obS, n_W hX hW, n_R hW, n_H hX hW, n_U hW, n_L hW, n_B hW, n_S hW, n_M hX, n_Ms hX, n_P, J.mi, ↓ti_t, ↓ti_f, ↓tv_W J, ↓tv_L J, ↓tv_B J, ↓tb56, w_W J, w_R J, w_L J, ↓tb_menIn J, ↓tb_showsAt J, ↓tb_hungIn J, ↓tb_isTurned J, ↓tb_menShown J, ↓tb_menShown2 J, ↓tb_bits, ↓tz_R J.2.1, ↓tz_M J.2.1, ↓tz_K J.2.1, e, e2, decide_false]
theorem tb_aloneOf (J : TI s X K) {x : Int} (h0 : 0 ≤ x) (h1 : x < xM X) (f : Int → TW → Option β) : bt_ (f_X8_aloneOf s x) f = f (alT X K x).1 s := by
  have hX := J.1
  have hW := J.2.2.2
  have a0 := hX.1
  have a1 := hX.2.2.1
  have a4 := hX.2.2.2.1
  have a2 := hW.1
  have b3 := J.2.1.1
  have jmi := J.mi
  refine btP ?_ f
  have hp := al_P (X := X) (K := K) x
  unfold f_X8_aloneOf alT
  refine loop (S := Int × Int) (fun n q => f_X8_aloneOf_L4 n s x q.1 q.2 (fun s5 x2 => some (nrm x2, s5))) (· = some ((itr (alG X K x) (kMi K + 1).toNat (0, 0, 0)).1, s)) (fun i q => q = ((itr (alG X K x) i (0, 0, 0)).1, (i : Int))) (kMi K + 1).toNat ?_ ?_ (kMi K + 1).toNat 0 FU (0, 0) (by omega) (by rw [FU_eq]; omega) rfl
  · rintro n i ⟨p, q⟩ hi he
    cases he
    right
    refine ⟨((itr (alG X K x) (i + 1) (0, 0, 0)).1, ((i + 1 : Nat) : Int)), ?_, rfl⟩
    dsimp only
    rw [f_X8_aloneOf_L4, itr, alG]
    by_cases c5 : alB X K x i = true
    · simp (disch := omega) only [↓reduceIte, Bool.false_eq_true, nrm_i, ltT, ltF, leT, leF, eqT, eqF, not_true_eq_false, not_false_eq_true, and_self, and_true, true_and, false_and, and_false, or_true, true_or, or_false, false_or, ↓btS, ↓bnS, ↓bdS, ↓jnS, ↓obS, n_W hX hW, n_R hW, n_H hX hW, n_U hW, n_L hW, n_B hW, n_S hW, n_M hX, n_Ms hX, n_P, J.mi, ↓ti_t, ↓ti_f, ↓tv_W J, ↓tv_L J, ↓tv_B J, ↓tb56, w_W J, w_R J, w_L J, ↓tb_menIn J, ↓tb_showsAt J, ↓tb_hungIn J, ↓tb_isTurned J, ↓tb_menShown J, ↓tb_menShown2 J, ↓tb_bits, ↓tz_R J.2.1, ↓tz_M J.2.1, ↓tz_K J.2.1, ↓tb_isAlone J, c5]; rfl
    · simp (disch := omega) only [↓reduceIte, Bool.false_eq_true, nrm_i, ltT, ltF, leT, leF, eqT, eqF, not_true_eq_false, not_false_eq_true, and_self, and_true, true_and, false_and, and_false, or_true, true_or, or_false, false_or, ↓btS, ↓bnS, ↓bdS, ↓jnS, ↓obS, n_W hX hW, n_R hW, n_H hX hW, n_U hW, n_L hW, n_B hW, n_S hW, n_M hX, n_Ms hX, n_P, J.mi, ↓ti_t, ↓ti_f, ↓tv_W J, ↓tv_L J, ↓tv_B J, ↓tb56, w_W J, w_R J, w_L J, ↓tb_menIn J, ↓tb_showsAt J, ↓tb_hungIn J, ↓tb_isTurned J, ↓tb_menShown J, ↓tb_menShown2 J, ↓tb_bits, ↓tz_R J.2.1, ↓tz_M J.2.1, ↓tz_K J.2.1, ↓tb_isAlone J, c5]; rfl
  · rintro n ⟨p, q⟩ he
    cases he
    dsimp only
    have := hp (kMi K + 1).toNat
    rw [f_X8_aloneOf_L4]
    simp (disch := omega) only [↓reduceIte, Bool.false_eq_true, nrm_i, ltT, ltF, leT, leF, eqT, eqF, not_true_eq_false, not_false_eq_true, and_self, and_true, true_and, false_and, and_false, or_true, true_or, or_false, false_or, ↓btS, ↓bnS, ↓bdS, ↓jnS, ↓obS, n_W hX hW, n_R hW, n_H hX hW, n_U hW, n_L hW, n_B hW, n_S hW, n_M hX, n_Ms hX, n_P, J.mi, ↓ti_t, ↓ti_f, ↓tv_W J, ↓tv_L J, ↓tv_B J, ↓tb56, w_W J, w_R J, w_L J, ↓tb_menIn J, ↓tb_showsAt J, ↓tb_hungIn J, ↓tb_isTurned J, ↓tb_menShown J, ↓tb_menShown2 J, ↓tb_bits, ↓tz_R J.2.1, ↓tz_M J.2.1, ↓tz_K J.2.1]
theorem t_alone (Q : TQ s X K) {x z : Int} (wx : wd x) (hz : z = 0 ∨ z = 1) : ∃ s' : TW, f_X8_alone s x z = some (q_alone X K x z, s') ∧ chg qk qf s s' := by
  obtain ⟨hX, hs, hn, hW⟩ := Q
  have Q : TQ s X K := ⟨hX, hs, hn, hW⟩
  have hmi := Q.mi
  have a0 := hX.1
  have a1 := hX.2.2.1
  have a4 := hX.2.2.2.1
  have a3 := hs.1
  have a2 := hW.1
  obtain ⟨s1, e1, J, l1, C⟩ := Q.copies
  have C := C.up (ks' := qk) (fs' := qf) (by decide) (by decide)
  have b3 := J.2.1.1
  have jmi := J.mi
  unfold f_X8_alone q_alone
  by_cases c1 : 0 ≤ x ∧ x < xM X
  · refine ⟨s1, ?_, C⟩
    rcases hz with rfl | rfl
    · simp (disch := omega) only [↓reduceIte, Bool.false_eq_true, nrm_i, ltT, ltF, leT, leF, eqT, eqF, not_true_eq_false, not_false_eq_true, and_self, and_true, true_and, false_and, and_false, or_true, true_or, or_false, false_or, ↓btS, ↓bnS, ↓bdS, ↓jnS, ↓obS, n_W hX hW, n_R hW, n_H hX hW, n_U hW, n_L hW, n_B hW, n_S hW, n_M hX, n_Ms hX, n_P, ↓ti_t, ↓ti_f, ↓tman_t hX hs, ↓tman_f hX hs, ↓troom_t hX hs, ↓troom_f hX hs, ↓tmir_t hX hs, ↓tmir_f hX hs, ↓tpas_t hn hW, ↓tpas_f hn hW, hmi, ↓pv_W Q, ↓pv_R Q, ↓pv_B Q, ↓tb52, p_W Q, p_R Q, ↓tz_R hs, ↓tz_M hs, ↓tz_K hs, ↓btP e1, ↓tb_aloneOf J, c1]
    · simp (disch := omega) only [↓reduceIte, Bool.false_eq_true, nrm_i, ltT, ltF, leT, leF, eqT, eqF, not_true_eq_false, not_false_eq_true, and_self, and_true, true_and, false_and, and_false, or_true, true_or, or_false, false_or, ↓btS, ↓bnS, ↓bdS, ↓jnS, ↓obS, n_W hX hW, n_R hW, n_H hX hW, n_U hW, n_L hW, n_B hW, n_S hW, n_M hX, n_Ms hX, n_P, ↓ti_t, ↓ti_f, ↓tman_t hX hs, ↓tman_f hX hs, ↓troom_t hX hs, ↓troom_f hX hs, ↓tmir_t hX hs, ↓tmir_f hX hs, ↓tpas_t hn hW, ↓tpas_f hn hW, hmi, ↓pv_W Q, ↓pv_R Q, ↓pv_B Q, ↓tb52, p_W Q, p_R Q, ↓tz_R hs, ↓tz_M hs, ↓tz_K hs, ↓btP e1, c1]
      have hp := al_P (X := X) (K := K) x
      unfold alT
      refine loop (S := Int × Int × Int) (fun n q => f_X8_alone_L32 n s1 x q.1 q.2.1 q.2.2 (fun s10 x3 => some (nrm x3, s10))) (· = some ((itr (alG X K x) (kMi K + 1).toNat (0, 0, 0)).2.2, s1)) (fun i q => q = ((itr (alG X K x) i (0, 0, 0)).2.2, (itr (alG X K x) i (0, 0, 0)).2.1, (i : Int))) (kMi K + 1).toNat ?_ ?_ (kMi K + 1).toNat 0 FU (0, 0, 0) (by omega) (by rw [FU_eq]; omega) rfl
      · rintro n i ⟨p, p2, q⟩ hi he
        cases he
        right
        refine ⟨((itr (alG X K x) (i + 1) (0, 0, 0)).2.2, (itr (alG X K x) (i + 1) (0, 0, 0)).2.1, ((i + 1 : Nat) : Int)), ?_, rfl⟩
        dsimp only
        have := hp i
        rw [f_X8_alone_L32, itr, alG]
        by_cases c5 : alB X K x i = true
        · by_cases c6 : (itr (alG X K x) i (0, 0, 0)).2.2 < (itr (alG X K x) i (0, 0, 0)).2.1 + 1
          · simp (disch := omega) only [↓reduceIte, Bool.false_eq_true, nrm_i, ltT, ltF, leT, leF, eqT, eqF, not_true_eq_false, not_false_eq_true, and_self, and_true, true_and, false_and, and_false, or_true, true_or, or_false, false_or, ↓btS, ↓bnS, ↓bdS, ↓jnS, ↓obS, n_W hX hW, n_R hW, n_H hX hW, n_U hW, n_L hW, n_B hW, n_S hW, n_M hX, n_Ms hX, n_P, J.mi, ↓ti_t, ↓ti_f, ↓tv_W J, ↓tv_L J, ↓tv_B J, ↓tb56, w_W J, w_R J, w_L J, ↓tb_menIn J, ↓tb_showsAt J, ↓tb_hungIn J, ↓tb_isTurned J, ↓tb_menShown J, ↓tb_menShown2 J, ↓tb_bits, ↓tz_R J.2.1, ↓tz_M J.2.1, ↓tz_K J.2.1, ↓tb_isAlone J, c5, c6]; rfl
          · simp (disch := omega) only [↓reduceIte, Bool.false_eq_true, nrm_i, ltT, ltF, leT, leF, eqT, eqF, not_true_eq_false, not_false_eq_true, and_self, and_true, true_and, false_and, and_false, or_true, true_or, or_false, false_or, ↓btS, ↓bnS, ↓bdS, ↓jnS, ↓obS, n_W hX hW, n_R hW, n_H hX hW, n_U hW, n_L hW, n_B hW, n_S hW, n_M hX, n_Ms hX, n_P, J.mi, ↓ti_t, ↓ti_f, ↓tv_W J, ↓tv_L J, ↓tv_B J, ↓tb56, w_W J, w_R J, w_L J, ↓tb_menIn J, ↓tb_showsAt J, ↓tb_hungIn J, ↓tb_isTurned J, ↓tb_menShown J, ↓tb_menShown2 J, ↓tb_bits, ↓tz_R J.2.1, ↓tz_M J.2.1, ↓tz_K J.2.1, ↓tb_isAlone J, c5, c6]; rfl
        · simp (disch := omega) only [↓reduceIte, Bool.false_eq_true, nrm_i, ltT, ltF, leT, leF, eqT, eqF, not_true_eq_false, not_false_eq_true, and_self, and_true, true_and, false_and, and_false, or_true, true_or, or_false, false_or, ↓btS, ↓bnS, ↓bdS, ↓jnS, ↓obS, n_W hX hW, n_R hW, n_H hX hW, n_U hW, n_L hW, n_B hW, n_S hW, n_M hX, n_Ms hX, n_P, J.mi, ↓ti_t, ↓ti_f, ↓tv_W J, ↓tv_L J, ↓tv_B J, ↓tb56, w_W J, w_R J, w_L J, ↓tb_menIn J, ↓tb_showsAt J, ↓tb_hungIn J, ↓tb_isTurned J, ↓tb_menShown J, ↓tb_menShown2 J, ↓tb_bits, ↓tz_R J.2.1, ↓tz_M J.2.1, ↓tz_K J.2.1, ↓tb_isAlone J, c5]; rfl
      · rintro n ⟨p, p2, q⟩ he
        cases he
        dsimp only
        have := hp (kMi K + 1).toNat
        rw [f_X8_alone_L32]
        simp (disch := omega) only [↓reduceIte, Bool.false_eq_true, nrm_i, ltT, ltF, leT, leF, eqT, eqF, not_true_eq_false, not_false_eq_true, and_self, and_true, true_and, false_and, and_false, or_true, true_or, or_false, false_or, ↓btS, ↓bnS, ↓bdS, ↓jnS, ↓obS, n_W hX hW, n_R hW, n_H hX hW, n_U hW, n_L hW, n_B hW, n_S hW, n_M hX, n_Ms hX, n_P, J.mi, ↓ti_t, ↓ti_f, ↓tv_W J, ↓tv_L J, ↓tv_B J, ↓tb56, w_W J, w_R J, w_L J, ↓tb_menIn J, ↓tb_showsAt J, ↓tb_hungIn J, ↓tb_isTurned J, ↓tb_menShown J, ↓tb_menShown2 J, ↓tb_bits, ↓tz_R J.2.1, ↓tz_M J.2.1, ↓tz_K J.2.1]
  · exact ⟨s, by simp (disch := omega) only [↓reduceIte, Bool.false_eq_true, nrm_i, ltT, ltF, leT, leF, eqT, eqF, not_true_eq_false, not_false_eq_true, and_self, and_true, true_and, false_and, and_false, or_true, true_or, or_false, false_or, ↓btS, ↓bnS, ↓bdS, ↓jnS, ↓obS, n_W hX hW, n_R hW, n_H hX hW, n_U hW, n_L hW, n_B hW, n_S hW, n_M hX, n_Ms hX, n_P, ↓ti_t, ↓ti_f, ↓tman_t hX hs, ↓tman_f hX hs, ↓troom_t hX hs, ↓troom_f hX hs, ↓tmir_t hX hs, ↓tmir_f hX hs, ↓tpas_t hn hW, ↓tpas_f hn hW, hmi, ↓pv_W Q, ↓pv_R Q, ↓pv_B Q, ↓tb52, p_W Q, p_R Q, ↓tz_R hs, ↓tz_M hs, ↓tz_K hs, c1], chg.rf _ _ _⟩
theorem t_lonely (Q : TQ s X K) : ∃ s' : TW, f_X8_lonely s = some (q_lonely X K, s') ∧ chg qk qf s s' := by
  obtain ⟨hX, hs, hn, hW⟩ := Q
  have Q : TQ s X K := ⟨hX, hs, hn, hW⟩
  have hmi := Q.mi
  have a0 := hX.1
  have a1 := hX.2.2.1
  have a4 := hX.2.2.2.1
  have a3 := hs.1
  have a2 := hW.1
  obtain ⟨s1, e1, J, l1, C⟩ := Q.copies
  have C := C.up (ks' := qk) (fs' := qf) (by decide) (by decide)
  have b3 := J.2.1.1
  have jmi := J.mi
  unfold f_X8_lonely q_lonely
  have hal1 : ∀ x : Int, nrm (alT X K x).1 = (alT X K x).1 := fun x => by
    have := al_P (X := X) (K := K) x (kMi K + 1).toNat
    unfold alT
    exact nrm_i (by omega) (by omega)
  by_cases c : xM X = 0
  · exact ⟨s, by simp (disch := omega) only [↓reduceIte, Bool.false_eq_true, nrm_i, ltT, ltF, leT, leF, eqT, eqF, not_true_eq_false, not_false_eq_true, and_self, and_true, true_and, false_and, and_false, or_true, true_or, or_false, false_or, ↓btS, ↓bnS, ↓bdS, ↓jnS, ↓obS, n_W hX hW, n_R hW, n_H hX hW, n_U hW, n_L hW, n_B hW, n_S hW, n_M hX, n_Ms hX, n_P, ↓ti_t, ↓ti_f, ↓tman_t hX hs, ↓tman_f hX hs, ↓troom_t hX hs, ↓troom_f hX hs, ↓tmir_t hX hs, ↓tmir_f hX hs, ↓tpas_t hn hW, ↓tpas_f hn hW, hmi, ↓pv_W Q, ↓pv_R Q, ↓pv_B Q, ↓tb52, p_W Q, p_R Q, ↓tz_R hs, ↓tz_M hs, ↓tz_K hs, c], chg.rf _ _ _⟩
  · refine ⟨s1, ?_, C⟩
    simp (disch := omega) only [↓reduceIte, Bool.false_eq_true, nrm_i, ltT, ltF, leT, leF, eqT, eqF, not_true_eq_false, not_false_eq_true, and_self, and_true, true_and, false_and, and_false, or_true, true_or, or_false, false_or, ↓btS, ↓bnS, ↓bdS, ↓jnS, ↓obS, n_W hX hW, n_R hW, n_H hX hW, n_U hW, n_L hW, n_B hW, n_S hW, n_M hX, n_Ms hX, n_P, ↓ti_t, ↓ti_f, ↓tman_t hX hs, ↓tman_f hX hs, ↓troom_t hX hs, ↓troom_f hX hs, ↓tmir_t hX hs, ↓tmir_f hX hs, ↓tpas_t hn hW, ↓tpas_f hn hW, hmi, ↓pv_W Q, ↓pv_R Q, ↓pv_B Q, ↓tb52, p_W Q, p_R Q, ↓tz_R hs, ↓tz_M hs, ↓tz_K hs, ↓btP e1, c]
    have hle := amx_le (fun m => (alT X K m).1) ((xM X).toNat - 1)
    refine loop (S := Int × Int) (fun n q => f_X8_lonely_L23 n s1 q.1 q.2 (fun s10 x1 => some (nrm x1, s10))) (· = some ((amx (fun m => (alT X K m).1) ((xM X).toNat - 1) : Int), s1)) (fun i q => q = ((amx (fun m => (alT X K m).1) i : Int), (i : Int) + 1)) ((xM X).toNat - 1) ?_ ?_ ((xM X).toNat - 1) 0 FU (0, 1) (by omega) (by rw [FU_eq]; omega) rfl
    · rintro n i ⟨p, q⟩ hi he
      cases he
      right
      refine ⟨((amx (fun m => (alT X K m).1) (i + 1) : Int), ((i + 1 : Nat) : Int) + 1), ?_, rfl⟩
      dsimp only
      have hle := amx_le (fun m => (alT X K m).1) i
      rw [f_X8_lonely_L23, amx]
      by_cases c : (alT X K (amx (fun m => (alT X K m).1) i : Nat)).1 < (alT X K ((i + 1 : Nat) : Int)).1
      · rw [if_pos c, show ((i : Int) + 1) = ((i + 1 : Nat) : Int) by omega]
        simp (disch := omega) only [↓reduceIte, Bool.false_eq_true, nrm_i, ltT, ltF, leT, leF, eqT, eqF, not_true_eq_false, not_false_eq_true, and_self, and_true, true_and, false_and, and_false, or_true, true_or, or_false, false_or, ↓btS, ↓bnS, ↓bdS, ↓jnS, ↓obS, n_W hX hW, n_R hW, n_H hX hW, n_U hW, n_L hW, n_B hW, n_S hW, n_M hX, n_Ms hX, n_P, J.mi, ↓ti_t, ↓ti_f, ↓tv_W J, ↓tv_L J, ↓tv_B J, ↓tb56, w_W J, w_R J, w_L J, ↓tb_menIn J, ↓tb_showsAt J, ↓tb_hungIn J, ↓tb_isTurned J, ↓tb_menShown J, ↓tb_menShown2 J, ↓tb_bits, ↓tz_R J.2.1, ↓tz_M J.2.1, ↓tz_K J.2.1, ↓tb_aloneOf J, hal1]
      · rw [if_neg c, show ((i : Int) + 1) = ((i + 1 : Nat) : Int) by omega]
        simp (disch := omega) only [↓reduceIte, Bool.false_eq_true, nrm_i, ltT, ltF, leT, leF, eqT, eqF, not_true_eq_false, not_false_eq_true, and_self, and_true, true_and, false_and, and_false, or_true, true_or, or_false, false_or, ↓btS, ↓bnS, ↓bdS, ↓jnS, ↓obS, n_W hX hW, n_R hW, n_H hX hW, n_U hW, n_L hW, n_B hW, n_S hW, n_M hX, n_Ms hX, n_P, J.mi, ↓ti_t, ↓ti_f, ↓tv_W J, ↓tv_L J, ↓tv_B J, ↓tb56, w_W J, w_R J, w_L J, ↓tb_menIn J, ↓tb_showsAt J, ↓tb_hungIn J, ↓tb_isTurned J, ↓tb_menShown J, ↓tb_menShown2 J, ↓tb_bits, ↓tz_R J.2.1, ↓tz_M J.2.1, ↓tz_K J.2.1, ↓tb_aloneOf J, hal1]
    · rintro n ⟨p, q⟩ he
      cases he
      dsimp only
      rw [f_X8_lonely_L23]
      simp (disch := omega) only [↓reduceIte, Bool.false_eq_true, nrm_i, ltT, ltF, leT, leF, eqT, eqF, not_true_eq_false, not_false_eq_true, and_self, and_true, true_and, false_and, and_false, or_true, true_or, or_false, false_or, ↓btS, ↓bnS, ↓bdS, ↓jnS, ↓obS, n_W hX hW, n_R hW, n_H hX hW, n_U hW, n_L hW, n_B hW, n_S hW, n_M hX, n_Ms hX, n_P, J.mi, ↓ti_t, ↓ti_f, ↓tv_W J, ↓tv_L J, ↓tv_B J, ↓tb56, w_W J, w_R J, w_L J, ↓tb_menIn J, ↓tb_showsAt J, ↓tb_hungIn J, ↓tb_isTurned J, ↓tb_menShown J, ↓tb_menShown2 J, ↓tb_bits, ↓tz_R J.2.1, ↓tz_M J.2.1, ↓tz_K J.2.1]
end
