set_option maxRecDepth 100000
set_option maxHeartbeats 4000000
theorem srb {m : Int} {x : Nat} (h0 : 0 ≤ m) (h1 : m < 9) (hx : x < 256) : anI (srI (x : Int) m) 1 = if x.testBit m.toNat = true then 1 else 0 := by
  have := sr_bit m.toNat (by omega) x hx
  rw [show ((m.toNat : Nat) : Int) = m by omega] at this
  exact this
/-- whom mirrors hanging in a room show -/
def mfG (X : Txt) (K : Crt) (r t : Int) (k : Nat) (a : Nat) : Nat := if kH K k t = r then a ||| mSh X K k t else a
def mFr (X : Txt) (K : Crt) (r t : Int) : Nat := itr (mfG X K r t) (xK X).toNat 0
theorem mfG_lt {X : Txt} (hX : WfX X) {K : Crt} (r t : Int) (k : Nat) {a : Nat} (h : a < 64) : mfG X K r t k a < 64 := by
  unfold mfG
  split
  · exact Nat.or_lt_two_pow (n := 6) h (mSh_lt hX _ _)
  · exact h
theorem mFr_lt {X : Txt} (hX : WfX X) (K : Crt) (r t : Int) : mFr X K r t < 64 := by
  have : ∀ n : Nat, itr (mfG X K r t) n 0 < 64 := by
    intro n
    induction n with
    | zero => exact (by decide : 0 < 64)
    | succ n ih => exact mfG_lt hX r t n ih
  exact this _
def anyN (P : Nat → Bool) (n : Nat) : Bool := itr (fun k b => b || P k) n false
theorem anyN_f {P : Nat → Bool} : ∀ {n : Nat}, anyN P n = false ↔ ∀ k : Nat, k < n → P k = false := by
  intro n
  induction n with
  | zero => exact ⟨fun _ k h => by omega, fun _ => rfl⟩
  | succ n ih =>
    have e : anyN P (n + 1) = (anyN P n || P n) := rfl
    rw [e, Bool.or_eq_false_iff, ih]
    refine ⟨fun h k hk => ?_, fun h => ⟨fun k hk => h k (by omega), h n (by omega)⟩⟩
    by_cases e : k = n
    · rw [e]; exact h.2
    · exact h.1 k (by omega)
theorem fnd_n {P : Nat → Bool} : ∀ {j i : Nat}, fnd P i j = none ↔ ∀ k : Nat, i ≤ k → k < i + j → P k = false := by
  intro j
  induction j with
  | zero => intro i; exact ⟨fun _ k _ _ => by omega, fun _ => rfl⟩
  | succ j ih =>
    intro i
    rw [fnd]
    by_cases h : P i = true
    · rw [if_pos h]
      refine ⟨fun h => (by cases h), fun g => ?_⟩
      have := g i (Nat.le_refl _) (by omega)
      rw [h] at this
      cases this
    · rw [if_neg h, ih]
      refine ⟨fun g k h1 h2 => ?_, fun g k h1 h2 => g k (by omega) (by omega)⟩
      by_cases e : k = i
      · rw [e]; simpa using h
      · exact g k (by omega) (by omega)
theorem fnd_any (P : Nat → Bool) (n : Nat) : (fnd P 0 n).isSome = anyN P n := by
  cases h : anyN P n with
  | false =>
    rw [anyN_f] at h
    rw [(fnd_n (P := P) (j := n) (i := 0)).mpr (fun k _ h2 => h k (by omega))]
    rfl
  | true =>
    cases g : fnd P 0 n with
    | some v => rfl
    | none =>
      rw [fnd_n] at g
      rw [anyN_f.mpr (fun k hk => g k (Nat.zero_le _) (by omega))] at h
      cases h
theorem fnd_if {β : Type} (P : Nat → Bool) (n : Nat) (x y : β) : (match fnd P 0 n with | some _ => x | none => y) = if anyN P n = true then x else y := by
  rw [← fnd_any]
  cases fnd P 0 n with
  | some v => rfl
  | none => rfl
theorem mFr_bit (X : Txt) (K : Crt) (r t : Int) (b : Nat) : (mFr X K r t).testBit b = anyN (fun k => decide (kH K k t = r) && (mSh X K k t).testBit b) (xK X).toNat := by
  have : ∀ n : Nat, (itr (mfG X K r t) n 0).testBit b = anyN (fun k => decide (kH K k t = r) && (mSh X K k t).testBit b) n := by
    intro n
    induction n with
    | zero => exact Nat.zero_testBit b
    | succ n ih =>
      show (mfG X K r t n (itr (mfG X K r t) n 0)).testBit b = (anyN _ n || _)
      rw [← ih, mfG]
      dsimp only
      by_cases h : kH K n t = r
      · rw [if_pos h, Nat.testBit_or, decide_eq_true h, Bool.true_and]
      · rw [if_neg h, decide_eq_false h, Bool.false_and, Bool.or_false]
  exact this _
def glG (X : Txt) (K : Crt) (x y : Int) (u : Nat) (q : Int × Int) : Int × Int := if (mFr X K (kW K x u) u).testBit y.toNat = true then (q.1 + 1, if q.2 < 0 then (u : Int) else q.2) else q
def q_glimpses (X : Txt) (K : Crt) (x y z : Int) : Int := if (0 ≤ x ∧ x < xM X) ∧ (0 ≤ y ∧ y < xM X) ∧ ¬ x = y ∧ (0 ≤ z ∧ z ≤ 1) then (if z = 0 then (itr (glG X K x y) (kMi K + 1).toNat (0, -2)).1 else (itr (glG X K x y) (kMi K + 1).toNat (0, -2)).2) else -1
def ghG (X : Txt) (K : Crt) (r : Int) (k : Nat) (a : Int) : Int := if kH K k (kMi K) = r ∧ 0 ≤ shw K k (kMi K) then orI a (anI (mIn X K (kH K k (shw K k (kMi K))) (shw K k (kMi K)) : Int) (xoI (mIn X K (kH K k (shw K k (kMi K))) (kMi K) : Int) (-1))) else a
def q_ghosts (X : Txt) (K : Crt) (x : Int) : Int := if 0 ≤ x ∧ x < xR X then itr (ghG X K x) (xK X).toNat 0 else -1
def olG (K : Crt) (k : Nat) (a : Int × Int) : Int × Int := if shw K k (kMi K) < 0 ∨ (0 ≤ a.1 ∧ a.2 ≤ shw K k (kMi K)) then a else ((k : Int), shw K k (kMi K))
def q_oldest (X : Txt) (K : Crt) (z : Int) : Int := if 0 ≤ z ∧ z ≤ 1 then (if z = 0 then (itr (olG K) (xK X).toNat (-2, -2)).1 else (itr (olG K) (xK X).toNat (-2, -2)).2) else -1
def crF (X : Txt) (K : Crt) (t : Int) (r : Nat) : Int := pcn (mIn X K r t)
def q_crowd (X : Txt) (K : Crt) (t z : Int) : Int := if (0 ≤ t ∧ t ≤ kMi K) ∧ (0 ≤ z ∧ z ≤ 1) then (if xR X = 0 then -2 else if z = 0 then (amx (crF X K t) ((xR X).toNat - 1) : Nat) else crF X K t (amx (crF X K t) ((xR X).toNat - 1))) else -1
def sdF (X : Txt) (K : Crt) (r : Nat) : Int := pcn (mFr X K r (kMi K))
def q_stand (X : Txt) (K : Crt) (z : Int) : Int := if 0 ≤ z ∧ z ≤ 1 then (if xR X = 0 then -2 else if z = 0 then (amx (sdF X K) ((xR X).toNat - 1) : Nat) else sdF X K (amx (sdF X K) ((xR X).toNat - 1))) else -1
theorem n_o (x y : Int) : nrm (orI x y) = orI x y := by unfold orI; exact nrm_of _
theorem or0 {a : Nat} (h : a < 2147483648) : orI (a : Int) 0 = (a : Int) := by
  have := orI_nat a 0 h (by decide)
  rw [Nat.or_zero] at this
  exact this
section
variable {Z : Nat → Prop} {σ : Hp} {o r : Nat} {X : Txt} {K : Crt} {β : Type}
theorem hb_menFrom (I : QI Z σ o r X K) {x t : Int} (wx : wd x) (t0 : 0 ≤ t) (t1 : t ≤ kMi K) (f : Int → Hp → Option β) : bn (f_X0_menFrom σ o x t) f = f (mFr X K x t : Int) σ := by
  obtain ⟨hO, hx, hZ, hK, hX, hW⟩ := I
  have I : QI Z σ o r X K := ⟨hO, hx, hZ, hK, hX, hW⟩
  have J := I.ci
  have hc := hO.court
  have a0 := hX.1
  have a1 := hX.2.2.1
  have a4 := hX.2.2.2.1
  have a2 := hW.1
  refine bnP ?_ f
  unfold f_X0_menFrom mFr
  obtain ⟨e, p⟩ := loopI (fun n (a : Nat) i => f_X0_menFrom_L5 o n σ x t (a : Int) i (fun s15 x3 => some (nrm x3, s15))) (fun a => some (nrm (a : Int), σ)) (mfG X K x t) (fun i a => a < 64) (xK X).toNat 0 (fl := FU) (a0 := 0) (by rw [FU_eq]; omega) (by decide) (fun n i a hi hp => by
        refine ⟨?_, mfG_lt hX x t i hp⟩
        have hm := mSh_lt (K := K) hX (i : Int) t
        rw [f_X0_menFrom_L5, Int.zero_add]
        unfold mfG
        by_cases c5 : kH K i t = x
        · simp (disch := omega) only [↓reduceIte, Bool.false_eq_true, nrm_i, ltT, ltF, leT, leF, eqT, eqF, not_true_eq_false, not_false_eq_true, and_self, and_true, true_and, false_and, and_false, or_true, true_or, or_false, false_or, ↓btS, ↓bnS, ↓bdS, ↓jnS, ↓obS, n_W hX hW, n_R hW, n_H hX hW, n_U hW, n_L hW, n_B hW, n_S hW, n_M hX, n_Ms hX, n_P, ↓i_t, ↓i_f, ↓man_t I, ↓man_f I, ↓room_t I, ↓room_f I, ↓mir_t I, ↓mir_f I, ↓pas_t I, ↓pas_f I, ↓h_men I, ↓h_rooms I, ↓h_mirrors I, ↓o_rcv hO, ↓o_gI hO, ↓o_g3 hO, ↓o_g7 hO, ↓o_g8 hO, ↓o_g12 hO, ↓c_ob hc, ↓cb_mi J, ↓c_g0b hc, ↓c_g1b hc, ↓c_g2b hc, ↓c_g3b hc, ↓c_g4b hc, ↓c_r0b hc, ↓c_r1b hc, ↓c_r2b hc, ↓c_r3b hc, ↓c_r4b hc, ↓cb_W J, ↓cb_R J, ↓cb_H J, ↓cb_U J, ↓cb_L J, ↓hb_shows J, ↓hb_menIn J, ↓hb_menShown J, ↓hb_isBroken J, ↓hb_bits, c5, orI_nat]
        · simp (disch := omega) only [↓reduceIte, Bool.false_eq_true, nrm_i, ltT, ltF, leT, leF, eqT, eqF, not_true_eq_false, not_false_eq_true, and_self, and_true, true_and, false_and, and_false, or_true, true_or, or_false, false_or, ↓btS, ↓bnS, ↓bdS, ↓jnS, ↓obS, n_W hX hW, n_R hW, n_H hX hW, n_U hW, n_L hW, n_B hW, n_S hW, n_M hX, n_Ms hX, n_P, ↓i_t, ↓i_f, ↓man_t I, ↓man_f I, ↓room_t I, ↓room_f I, ↓mir_t I, ↓mir_f I, ↓pas_t I, ↓pas_f I, ↓h_men I, ↓h_rooms I, ↓h_mirrors I, ↓o_rcv hO, ↓o_gI hO, ↓o_g3 hO, ↓o_g7 hO, ↓o_g8 hO, ↓o_g12 hO, ↓c_ob hc, ↓cb_mi J, ↓c_g0b hc, ↓c_g1b hc, ↓c_g2b hc, ↓c_g3b hc, ↓c_g4b hc, ↓c_r0b hc, ↓c_r1b hc, ↓c_r2b hc, ↓c_r3b hc, ↓c_r4b hc, ↓cb_W J, ↓cb_R J, ↓cb_H J, ↓cb_U J, ↓cb_L J, ↓hb_shows J, ↓hb_menIn J, ↓hb_menShown J, ↓hb_isBroken J, ↓hb_bits, c5, or0])
      (fun n a hp => by
        rw [f_X0_menFrom_L5]
        simp (disch := omega) only [↓reduceIte, Bool.false_eq_true, nrm_i, ltT, ltF, leT, leF, eqT, eqF, not_true_eq_false, not_false_eq_true, and_self, and_true, true_and, false_and, and_false, or_true, true_or, or_false, false_or, ↓btS, ↓bnS, ↓bdS, ↓jnS, ↓obS, n_W hX hW, n_R hW, n_H hX hW, n_U hW, n_L hW, n_B hW, n_S hW, n_M hX, n_Ms hX, n_P, ↓i_t, ↓i_f, ↓man_t I, ↓man_f I, ↓room_t I, ↓room_f I, ↓mir_t I, ↓mir_f I, ↓pas_t I, ↓pas_f I, ↓h_men I, ↓h_rooms I, ↓h_mirrors I, ↓o_rcv hO, ↓o_gI hO, ↓o_g3 hO, ↓o_g7 hO, ↓o_g8 hO, ↓o_g12 hO, ↓c_ob hc, ↓cb_mi J, ↓c_g0b hc, ↓c_g1b hc, ↓c_g2b hc, ↓c_g3b hc, ↓c_g4b hc, ↓c_r0b hc, ↓c_r1b hc, ↓c_r2b hc, ↓c_r3b hc, ↓c_r4b hc, ↓cb_W J, ↓cb_R J, ↓cb_H J, ↓cb_U J, ↓cb_L J, ↓hb_shows J, ↓hb_menIn J, ↓hb_menShown J, ↓hb_isBroken J, ↓hb_bits])
  exact e.trans (by rw [nrm_i (by omega) (by omega)])
theorem h_glimpses (I : QI Z σ o r X K) {x y z : Int} (wx : wd x) (wy : wd y) (wz : wd z) : f_X0_glimpses σ o x y z = some (q_glimpses X K x y z, σ) := by
  obtain ⟨hO, hx, hZ, hK, hX, hW⟩ := I
  have I : QI Z σ o r X K := ⟨hO, hx, hZ, hK, hX, hW⟩
  have J := I.ci
  have hc := hO.court
  have a0 := hX.1
  have a1 := hX.2.2.1
  have a4 := hX.2.2.2.1
  have a2 := hW.1
  unfold f_X0_glimpses q_glimpses
  by_cases G : (0 ≤ x ∧ x < xM X) ∧ (0 ≤ y ∧ y < xM X) ∧ ¬ x = y ∧ (0 ≤ z ∧ z ≤ 1)
  · obtain ⟨c1, c2, c3, c4⟩ := G
    simp (disch := omega) only [↓reduceIte, Bool.false_eq_true, nrm_i, ltT, ltF, leT, leF, eqT, eqF, not_true_eq_false, not_false_eq_true, and_self, and_true, true_and, false_and, and_false, or_true, true_or, or_false, false_or, ↓btS, ↓bnS, ↓bdS, ↓jnS, ↓obS, n_W hX hW, n_R hW, n_H hX hW, n_U hW, n_L hW, n_B hW, n_S hW, n_M hX, n_Ms hX, n_P, ↓i_t, ↓i_f, ↓man_t I, ↓man_f I, ↓room_t I, ↓room_f I, ↓mir_t I, ↓mir_f I, ↓pas_t I, ↓pas_f I, ↓h_men I, ↓h_rooms I, ↓h_mirrors I, ↓o_rcv hO, ↓o_gI hO, ↓o_g3 hO, ↓o_g7 hO, ↓o_g8 hO, ↓o_g12 hO, ↓c_ob hc, ↓cb_mi J, ↓c_g0b hc, ↓c_g1b hc, ↓c_g2b hc, ↓c_g3b hc, ↓c_g4b hc, ↓c_r0b hc, ↓c_r1b hc, ↓c_r2b hc, ↓c_r3b hc, ↓c_r4b hc, ↓cb_W J, ↓cb_R J, ↓cb_H J, ↓cb_U J, ↓cb_L J, ↓hb_shows J, ↓hb_menIn J, ↓hb_menShown J, ↓hb_isBroken J, ↓hb_bits, c1, c2, c3, c4]
    obtain ⟨e, p⟩ := loopI (fun n (a : Int × Int) i => f_X0_glimpses_L42 o n σ x y z a.1 a.2 i (fun s21 x3 x4 x5 => (if ¬ nrm x3 = 0 then (some (nrm x5, s21)) else (some (nrm x4, s21))))) (fun a => if ¬ nrm z = 0 then (some (nrm a.2, σ)) else (some (nrm a.1, σ))) (glG X K x y) (fun i a => 0 ≤ a.1 ∧ a.1 ≤ i ∧ -2 ≤ a.2 ∧ a.2 ≤ i) (kMi K + 1).toNat 0 (fl := FU) (a0 := (0, -2)) (by rw [FU_eq]; omega) ⟨by decide, by decide, by decide, by decide⟩ (fun n i a hi hp => by
        try dsimp only
        have hw := (hW.2.1 x i c1.1 c1.2 (by omega) (by omega)).1
        have hm := mFr_lt hX K (kW K x i) i
        rw [f_X0_glimpses_L42, Int.zero_add]
        unfold glG
        by_cases c5 : (mFr X K (kW K x i) i).testBit y.toNat = true
        · by_cases c6 : a.2 < 0
          · exact ⟨by simp (disch := omega) only [↓reduceIte, Bool.false_eq_true, nrm_i, ltT, ltF, leT, leF, eqT, eqF, not_true_eq_false, not_false_eq_true, and_self, and_true, true_and, false_and, and_false, or_true, true_or, or_false, false_or, ↓btS, ↓bnS, ↓bdS, ↓jnS, ↓obS, n_W hX hW, n_R hW, n_H hX hW, n_U hW, n_L hW, n_B hW, n_S hW, n_M hX, n_Ms hX, n_P, ↓i_t, ↓i_f, ↓man_t I, ↓man_f I, ↓room_t I, ↓room_f I, ↓mir_t I, ↓mir_f I, ↓pas_t I, ↓pas_f I, ↓h_men I, ↓h_rooms I, ↓h_mirrors I, ↓o_rcv hO, ↓o_gI hO, ↓o_g3 hO, ↓o_g7 hO, ↓o_g8 hO, ↓o_g12 hO, ↓c_ob hc, ↓cb_mi J, ↓c_g0b hc, ↓c_g1b hc, ↓c_g2b hc, ↓c_g3b hc, ↓c_g4b hc, ↓c_r0b hc, ↓c_r1b hc, ↓c_r2b hc, ↓c_r3b hc, ↓c_r4b hc, ↓cb_W J, ↓cb_R J, ↓cb_H J, ↓cb_U J, ↓cb_L J, ↓hb_shows J, ↓hb_menIn J, ↓hb_menShown J, ↓hb_isBroken J, ↓hb_bits, ↓hb_menFrom I, srb, c5, c6], by simp (disch := omega) only [↓reduceIte, Bool.false_eq_true, nrm_i, ltT, ltF, leT, leF, eqT, eqF, not_true_eq_false, not_false_eq_true, and_self, and_true, true_and, false_and, and_false, or_true, true_or, or_false, false_or, ↓btS, ↓bnS, ↓bdS, ↓jnS, ↓obS, c5, c6] <;> omega⟩
          · exact ⟨by simp (disch := omega) only [↓reduceIte, Bool.false_eq_true, nrm_i, ltT, ltF, leT, leF, eqT, eqF, not_true_eq_false, not_false_eq_true, and_self, and_true, true_and, false_and, and_false, or_true, true_or, or_false, false_or, ↓btS, ↓bnS, ↓bdS, ↓jnS, ↓obS, n_W hX hW, n_R hW, n_H hX hW, n_U hW, n_L hW, n_B hW, n_S hW, n_M hX, n_Ms hX, n_P, ↓i_t, ↓i_f, ↓man_t I, ↓man_f I, ↓room_t I, ↓room_f I, ↓mir_t I, ↓mir_f I, ↓pas_t I, ↓pas_f I, ↓h_men I, ↓h_rooms I, ↓h_mirrors I, ↓o_rcv hO, ↓o_gI hO, ↓o_g3 hO, ↓o_g7 hO, ↓o_g8 hO, ↓o_g12 hO, ↓c_ob hc, ↓cb_mi J, ↓c_g0b hc, ↓c_g1b hc, ↓c_g2b hc, ↓c_g3b hc, ↓c_g4b hc, ↓c_r0b hc, ↓c_r1b hc, ↓c_r2b hc, ↓c_r3b hc, ↓c_r4b hc, ↓cb_W J, ↓cb_R J, ↓cb_H J, ↓cb_U J, ↓cb_L J, ↓hb_shows J, ↓hb_menIn J, ↓hb_menShown J, ↓hb_isBroken J, ↓hb_bits, ↓hb_menFrom I, srb, c5, c6], by simp (disch := omega) only [↓reduceIte, Bool.false_eq_true, nrm_i, ltT, ltF, leT, leF, eqT, eqF, not_true_eq_false, not_false_eq_true, and_self, and_true, true_and, false_and, and_false, or_true, true_or, or_false, false_or, ↓btS, ↓bnS, ↓bdS, ↓jnS, ↓obS, c5, c6] <;> omega⟩
        · exact ⟨by simp (disch := omega) only [↓reduceIte, Bool.false_eq_true, nrm_i, ltT, ltF, leT, leF, eqT, eqF, not_true_eq_false, not_false_eq_true, and_self, and_true, true_and, false_and, and_false, or_true, true_or, or_false, false_or, ↓btS, ↓bnS, ↓bdS, ↓jnS, ↓obS, n_W hX hW, n_R hW, n_H hX hW, n_U hW, n_L hW, n_B hW, n_S hW, n_M hX, n_Ms hX, n_P, ↓i_t, ↓i_f, ↓man_t I, ↓man_f I, ↓room_t I, ↓room_f I, ↓mir_t I, ↓mir_f I, ↓pas_t I, ↓pas_f I, ↓h_men I, ↓h_rooms I, ↓h_mirrors I, ↓o_rcv hO, ↓o_gI hO, ↓o_g3 hO, ↓o_g7 hO, ↓o_g8 hO, ↓o_g12 hO, ↓c_ob hc, ↓cb_mi J, ↓c_g0b hc, ↓c_g1b hc, ↓c_g2b hc, ↓c_g3b hc, ↓c_g4b hc, ↓c_r0b hc, ↓c_r1b hc, ↓c_r2b hc, ↓c_r3b hc, ↓c_r4b hc, ↓cb_W J, ↓cb_R J, ↓cb_H J, ↓cb_U J, ↓cb_L J, ↓hb_shows J, ↓hb_menIn J, ↓hb_menShown J, ↓hb_isBroken J, ↓hb_bits, ↓hb_menFrom I, srb, c5], by simp (disch := omega) only [↓reduceIte, Bool.false_eq_true, nrm_i, ltT, ltF, leT, leF, eqT, eqF, not_true_eq_false, not_false_eq_true, and_self, and_true, true_and, false_and, and_false, or_true, true_or, or_false, false_or, ↓btS, ↓bnS, ↓bdS, ↓jnS, ↓obS, c5] <;> omega⟩)
      (fun n a hp => by
        try dsimp only
        rw [f_X0_glimpses_L42]
        simp (disch := omega) only [↓reduceIte, Bool.false_eq_true, nrm_i, ltT, ltF, leT, leF, eqT, eqF, not_true_eq_false, not_false_eq_true, and_self, and_true, true_and, false_and, and_false, or_true, true_or, or_false, false_or, ↓btS, ↓bnS, ↓bdS, ↓jnS, ↓obS, n_W hX hW, n_R hW, n_H hX hW, n_U hW, n_L hW, n_B hW, n_S hW, n_M hX, n_Ms hX, n_P, ↓i_t, ↓i_f, ↓man_t I, ↓man_f I, ↓room_t I, ↓room_f I, ↓mir_t I, ↓mir_f I, ↓pas_t I, ↓pas_f I, ↓h_men I, ↓h_rooms I, ↓h_mirrors I, ↓o_rcv hO, ↓o_gI hO, ↓o_g3 hO, ↓o_g7 hO, ↓o_g8 hO, ↓o_g12 hO, ↓c_ob hc, ↓cb_mi J, ↓c_g0b hc, ↓c_g1b hc, ↓c_g2b hc, ↓c_g3b hc, ↓c_g4b hc, ↓c_r0b hc, ↓c_r1b hc, ↓c_r2b hc, ↓c_r3b hc, ↓c_r4b hc, ↓cb_W J, ↓cb_R J, ↓cb_H J, ↓cb_U J, ↓cb_L J, ↓hb_shows J, ↓hb_menIn J, ↓hb_menShown J, ↓hb_isBroken J, ↓hb_bits])
    rw [e, nrm_i (z := z) (by omega) (by omega), nrm_i (by omega) (by omega), nrm_i (by omega) (by omega)]
    by_cases c5 : z = 0
    · simp (disch := omega) only [↓reduceIte, Bool.false_eq_true, nrm_i, ltT, ltF, leT, leF, eqT, eqF, not_true_eq_false, not_false_eq_true, and_self, and_true, true_and, false_and, and_false, or_true, true_or, or_false, false_or, ↓btS, ↓bnS, ↓bdS, ↓jnS, ↓obS, c5]
    · simp (disch := omega) only [↓reduceIte, Bool.false_eq_true, nrm_i, ltT, ltF, leT, leF, eqT, eqF, not_true_eq_false, not_false_eq_true, and_self, and_true, true_and, false_and, and_false, or_true, true_or, or_false, false_or, ↓btS, ↓bnS, ↓bdS, ↓jnS, ↓obS, c5]
  · rw [if_neg G]
    by_cases c1 : 0 ≤ x ∧ x < xM X
    · by_cases c2 : 0 ≤ y ∧ y < xM X
      · by_cases c3 : ¬ x = y
        · by_cases c4 : 0 ≤ z ∧ z ≤ 1
          · exact absurd ⟨c1, c2, c3, c4⟩ G
          · simp (disch := omega) only [↓reduceIte, Bool.false_eq_true, nrm_i, ltT, ltF, leT, leF, eqT, eqF, not_true_eq_false, not_false_eq_true, and_self, and_true, true_and, false_and, and_false, or_true, true_or, or_false, false_or, ↓btS, ↓bnS, ↓bdS, ↓jnS, ↓obS, n_W hX hW, n_R hW, n_H hX hW, n_U hW, n_L hW, n_B hW, n_S hW, n_M hX, n_Ms hX, n_P, ↓i_t, ↓i_f, ↓man_t I, ↓man_f I, ↓room_t I, ↓room_f I, ↓mir_t I, ↓mir_f I, ↓pas_t I, ↓pas_f I, ↓h_men I, ↓h_rooms I, ↓h_mirrors I, ↓o_rcv hO, ↓o_gI hO, ↓o_g3 hO, ↓o_g7 hO, ↓o_g8 hO, ↓o_g12 hO, ↓c_ob hc, ↓cb_mi J, ↓c_g0b hc, ↓c_g1b hc, ↓c_g2b hc, ↓c_g3b hc, ↓c_g4b hc, ↓c_r0b hc, ↓c_r1b hc, ↓c_r2b hc, ↓c_r3b hc, ↓c_r4b hc, ↓cb_W J, ↓cb_R J, ↓cb_H J, ↓cb_U J, ↓cb_L J, ↓hb_shows J, ↓hb_menIn J, ↓hb_menShown J, ↓hb_isBroken J, ↓hb_bits]
        · simp (disch := omega) only [↓reduceIte, Bool.false_eq_true, nrm_i, ltT, ltF, leT, leF, eqT, eqF, not_true_eq_false, not_false_eq_true, and_self, and_true, true_and, false_and, and_false, or_true, true_or, or_false, false_or, ↓btS, ↓bnS, ↓bdS, ↓jnS, ↓obS, n_W hX hW, n_R hW, n_H hX hW, n_U hW, n_L hW, n_B hW, n_S hW, n_M hX, n_Ms hX, n_P, ↓i_t, ↓i_f, ↓man_t I, ↓man_f I, ↓room_t I, ↓room_f I, ↓mir_t I, ↓mir_f I, ↓pas_t I, ↓pas_f I, ↓h_men I, ↓h_rooms I, ↓h_mirrors I, ↓o_rcv hO, ↓o_gI hO, ↓o_g3 hO, ↓o_g7 hO, ↓o_g8 hO, ↓o_g12 hO, ↓c_ob hc, ↓cb_mi J, ↓c_g0b hc, ↓c_g1b hc, ↓c_g2b hc, ↓c_g3b hc, ↓c_g4b hc, ↓c_r0b hc, ↓c_r1b hc, ↓c_r2b hc, ↓c_r3b hc, ↓c_r4b hc, ↓cb_W J, ↓cb_R J, ↓cb_H J, ↓cb_U J, ↓cb_L J, ↓hb_shows J, ↓hb_menIn J, ↓hb_menShown J, ↓hb_isBroken J, ↓hb_bits]
      · simp (disch := omega) only [↓reduceIte, Bool.false_eq_true, nrm_i, ltT, ltF, leT, leF, eqT, eqF, not_true_eq_false, not_false_eq_true, and_self, and_true, true_and, false_and, and_false, or_true, true_or, or_false, false_or, ↓btS, ↓bnS, ↓bdS, ↓jnS, ↓obS, n_W hX hW, n_R hW, n_H hX hW, n_U hW, n_L hW, n_B hW, n_S hW, n_M hX, n_Ms hX, n_P, ↓i_t, ↓i_f, ↓man_t I, ↓man_f I, ↓room_t I, ↓room_f I, ↓mir_t I, ↓mir_f I, ↓pas_t I, ↓pas_f I, ↓h_men I, ↓h_rooms I, ↓h_mirrors I, ↓o_rcv hO, ↓o_gI hO, ↓o_g3 hO, ↓o_g7 hO, ↓o_g8 hO, ↓o_g12 hO, ↓c_ob hc, ↓cb_mi J, ↓c_g0b hc, ↓c_g1b hc, ↓c_g2b hc, ↓c_g3b hc, ↓c_g4b hc, ↓c_r0b hc, ↓c_r1b hc, ↓c_r2b hc, ↓c_r3b hc, ↓c_r4b hc, ↓cb_W J, ↓cb_R J, ↓cb_H J, ↓cb_U J, ↓cb_L J, ↓hb_shows J, ↓hb_menIn J, ↓hb_menShown J, ↓hb_isBroken J, ↓hb_bits]
    · simp (disch := omega) only [↓reduceIte, Bool.false_eq_true, nrm_i, ltT, ltF, leT, leF, eqT, eqF, not_true_eq_false, not_false_eq_true, and_self, and_true, true_and, false_and, and_false, or_true, true_or, or_false, false_or, ↓btS, ↓bnS, ↓bdS, ↓jnS, ↓obS, n_W hX hW, n_R hW, n_H hX hW, n_U hW, n_L hW, n_B hW, n_S hW, n_M hX, n_Ms hX, n_P, ↓i_t, ↓i_f, ↓man_t I, ↓man_f I, ↓room_t I, ↓room_f I, ↓mir_t I, ↓mir_f I, ↓pas_t I, ↓pas_f I, ↓h_men I, ↓h_rooms I, ↓h_mirrors I, ↓o_rcv hO, ↓o_gI hO, ↓o_g3 hO, ↓o_g7 hO, ↓o_g8 hO, ↓o_g12 hO, ↓c_ob hc, ↓cb_mi J, ↓c_g0b hc, ↓c_g1b hc, ↓c_g2b hc, ↓c_g3b hc, ↓c_g4b hc, ↓c_r0b hc, ↓c_r1b hc, ↓c_r2b hc, ↓c_r3b hc, ↓c_r4b hc, ↓cb_W J, ↓cb_R J, ↓cb_H J, ↓cb_U J, ↓cb_L J, ↓hb_shows J, ↓hb_menIn J, ↓hb_menShown J, ↓hb_isBroken J, ↓hb_bits]
theorem h_ghosts (I : QI Z σ o r X K) {x : Int} (wx : wd x) : f_X0_ghosts σ o x = some (q_ghosts X K x, σ) := by
  obtain ⟨hO, hx, hZ, hK, hX, hW⟩ := I
  have I : QI Z σ o r X K := ⟨hO, hx, hZ, hK, hX, hW⟩
  have J := I.ci
  have hc := hO.court
  have a0 := hX.1
  have a1 := hX.2.2.1
  have a4 := hX.2.2.2.1
  have a2 := hW.1
  unfold f_X0_ghosts q_ghosts
  by_cases c1 : 0 ≤ x ∧ x < xR X
  · simp (disch := omega) only [↓reduceIte, Bool.false_eq_true, nrm_i, ltT, ltF, leT, leF, eqT, eqF, not_true_eq_false, not_false_eq_true, and_self, and_true, true_and, false_and, and_false, or_true, true_or, or_false, false_or, ↓btS, ↓bnS, ↓bdS, ↓jnS, ↓obS, n_W hX hW, n_R hW, n_H hX hW, n_U hW, n_L hW, n_B hW, n_S hW, n_M hX, n_Ms hX, n_P, ↓i_t, ↓i_f, ↓man_t I, ↓man_f I, ↓room_t I, ↓room_f I, ↓mir_t I, ↓mir_f I, ↓pas_t I, ↓pas_f I, ↓h_men I, ↓h_rooms I, ↓h_mirrors I, ↓o_rcv hO, ↓o_gI hO, ↓o_g3 hO, ↓o_g7 hO, ↓o_g8 hO, ↓o_g12 hO, ↓c_ob hc, ↓cb_mi J, ↓c_g0b hc, ↓c_g1b hc, ↓c_g2b hc, ↓c_g3b hc, ↓c_g4b hc, ↓c_r0b hc, ↓c_r1b hc, ↓c_r2b hc, ↓c_r3b hc, ↓c_r4b hc, ↓cb_W J, ↓cb_R J, ↓cb_H J, ↓cb_U J, ↓cb_L J, ↓hb_shows J, ↓hb_menIn J, ↓hb_menShown J, ↓hb_isBroken J, ↓hb_bits, c1]
    obtain ⟨e, p⟩ := loopI (fun n (a : Int) i => f_X0_ghosts_L23 o n σ x a (kMi K) i (fun s38 x2 => some (nrm x2, s38))) (fun a => some (nrm a, σ)) (ghG X K x) (fun i a => nrm a = a) (xK X).toNat 0 (fl := FU) (a0 := 0) (by rw [FU_eq]; omega) nrm_0 (fun n i a hi hp => by
        have hs := shw_le hW (k := i) (t := kMi K) (by omega) (by omega) a2.1 (Int.le_refl _)
        rw [f_X0_ghosts_L23, Int.zero_add]
        unfold ghG
        by_cases c6 : 0 ≤ shw K i (kMi K)
        · have hh := (hW.2.2.1 i (shw K i (kMi K)) (by omega) (by omega) c6 (by omega)).1
          by_cases c5 : kH K i (kMi K) = x
          · exact ⟨by simp (disch := omega) only [↓reduceIte, Bool.false_eq_true, nrm_i, ltT, ltF, leT, leF, eqT, eqF, not_true_eq_false, not_false_eq_true, and_self, and_true, true_and, false_and, and_false, or_true, true_or, or_false, false_or, ↓btS, ↓bnS, ↓bdS, ↓jnS, ↓obS, n_W hX hW, n_R hW, n_H hX hW, n_U hW, n_L hW, n_B hW, n_S hW, n_M hX, n_Ms hX, n_P, ↓i_t, ↓i_f, ↓man_t I, ↓man_f I, ↓room_t I, ↓room_f I, ↓mir_t I, ↓mir_f I, ↓pas_t I, ↓pas_f I, ↓h_men I, ↓h_rooms I, ↓h_mirrors I, ↓o_rcv hO, ↓o_gI hO, ↓o_g3 hO, ↓o_g7 hO, ↓o_g8 hO, ↓o_g12 hO, ↓c_ob hc, ↓cb_mi J, ↓c_g0b hc, ↓c_g1b hc, ↓c_g2b hc, ↓c_g3b hc, ↓c_g4b hc, ↓c_r0b hc, ↓c_r1b hc, ↓c_r2b hc, ↓c_r3b hc, ↓c_r4b hc, ↓cb_W J, ↓cb_R J, ↓cb_H J, ↓cb_U J, ↓cb_L J, ↓hb_shows J, ↓hb_menIn J, ↓hb_menShown J, ↓hb_isBroken J, ↓hb_bits, c5, c6], by simp (disch := omega) only [↓reduceIte, Bool.false_eq_true, nrm_i, ltT, ltF, leT, leF, eqT, eqF, not_true_eq_false, not_false_eq_true, and_self, and_true, true_and, false_and, and_false, or_true, true_or, or_false, false_or, ↓btS, ↓bnS, ↓bdS, ↓jnS, ↓obS, c5, c6, n_o]⟩
          · exact ⟨by simp (disch := omega) only [↓reduceIte, Bool.false_eq_true, nrm_i, ltT, ltF, leT, leF, eqT, eqF, not_true_eq_false, not_false_eq_true, and_self, and_true, true_and, false_and, and_false, or_true, true_or, or_false, false_or, ↓btS, ↓bnS, ↓bdS, ↓jnS, ↓obS, n_W hX hW, n_R hW, n_H hX hW, n_U hW, n_L hW, n_B hW, n_S hW, n_M hX, n_Ms hX, n_P, ↓i_t, ↓i_f, ↓man_t I, ↓man_f I, ↓room_t I, ↓room_f I, ↓mir_t I, ↓mir_f I, ↓pas_t I, ↓pas_f I, ↓h_men I, ↓h_rooms I, ↓h_mirrors I, ↓o_rcv hO, ↓o_gI hO, ↓o_g3 hO, ↓o_g7 hO, ↓o_g8 hO, ↓o_g12 hO, ↓c_ob hc, ↓cb_mi J, ↓c_g0b hc, ↓c_g1b hc, ↓c_g2b hc, ↓c_g3b hc, ↓c_g4b hc, ↓c_r0b hc, ↓c_r1b hc, ↓c_r2b hc, ↓c_r3b hc, ↓c_r4b hc, ↓cb_W J, ↓cb_R J, ↓cb_H J, ↓cb_U J, ↓cb_L J, ↓hb_shows J, ↓hb_menIn J, ↓hb_menShown J, ↓hb_isBroken J, ↓hb_bits, c5, c6], by simp (disch := omega) only [↓reduceIte, Bool.false_eq_true, nrm_i, ltT, ltF, leT, leF, eqT, eqF, not_true_eq_false, not_false_eq_true, and_self, and_true, true_and, false_and, and_false, or_true, true_or, or_false, false_or, ↓btS, ↓bnS, ↓bdS, ↓jnS, ↓obS, c5, c6, hp]⟩
        · by_cases c5 : kH K i (kMi K) = x
          · exact ⟨by simp (disch := omega) only [↓reduceIte, Bool.false_eq_true, nrm_i, ltT, ltF, leT, leF, eqT, eqF, not_true_eq_false, not_false_eq_true, and_self, and_true, true_and, false_and, and_false, or_true, true_or, or_false, false_or, ↓btS, ↓bnS, ↓bdS, ↓jnS, ↓obS, n_W hX hW, n_R hW, n_H hX hW, n_U hW, n_L hW, n_B hW, n_S hW, n_M hX, n_Ms hX, n_P, ↓i_t, ↓i_f, ↓man_t I, ↓man_f I, ↓room_t I, ↓room_f I, ↓mir_t I, ↓mir_f I, ↓pas_t I, ↓pas_f I, ↓h_men I, ↓h_rooms I, ↓h_mirrors I, ↓o_rcv hO, ↓o_gI hO, ↓o_g3 hO, ↓o_g7 hO, ↓o_g8 hO, ↓o_g12 hO, ↓c_ob hc, ↓cb_mi J, ↓c_g0b hc, ↓c_g1b hc, ↓c_g2b hc, ↓c_g3b hc, ↓c_g4b hc, ↓c_r0b hc, ↓c_r1b hc, ↓c_r2b hc, ↓c_r3b hc, ↓c_r4b hc, ↓cb_W J, ↓cb_R J, ↓cb_H J, ↓cb_U J, ↓cb_L J, ↓hb_shows J, ↓hb_menIn J, ↓hb_menShown J, ↓hb_isBroken J, ↓hb_bits, c5, c6], by simp (disch := omega) only [↓reduceIte, Bool.false_eq_true, nrm_i, ltT, ltF, leT, leF, eqT, eqF, not_true_eq_false, not_false_eq_true, and_self, and_true, true_and, false_and, and_false, or_true, true_or, or_false, false_or, ↓btS, ↓bnS, ↓bdS, ↓jnS, ↓obS, c5, c6, hp]⟩
          · exact ⟨by simp (disch := omega) only [↓reduceIte, Bool.false_eq_true, nrm_i, ltT, ltF, leT, leF, eqT, eqF, not_true_eq_false, not_false_eq_true, and_self, and_true, true_and, false_and, and_false, or_true, true_or, or_false, false_or, ↓btS, ↓bnS, ↓bdS, ↓jnS, ↓obS, n_W hX hW, n_R hW, n_H hX hW, n_U hW, n_L hW, n_B hW, n_S hW, n_M hX, n_Ms hX, n_P, ↓i_t, ↓i_f, ↓man_t I, ↓man_f I, ↓room_t I, ↓room_f I, ↓mir_t I, ↓mir_f I, ↓pas_t I, ↓pas_f I, ↓h_men I, ↓h_rooms I, ↓h_mirrors I, ↓o_rcv hO, ↓o_gI hO, ↓o_g3 hO, ↓o_g7 hO, ↓o_g8 hO, ↓o_g12 hO, ↓c_ob hc, ↓cb_mi J, ↓c_g0b hc, ↓c_g1b hc, ↓c_g2b hc, ↓c_g3b hc, ↓c_g4b hc, ↓c_r0b hc, ↓c_r1b hc, ↓c_r2b hc, ↓c_r3b hc, ↓c_r4b hc, ↓cb_W J, ↓cb_R J, ↓cb_H J, ↓cb_U J, ↓cb_L J, ↓hb_shows J, ↓hb_menIn J, ↓hb_menShown J, ↓hb_isBroken J, ↓hb_bits, c5, c6], by simp (disch := omega) only [↓reduceIte, Bool.false_eq_true, nrm_i, ltT, ltF, leT, leF, eqT, eqF, not_true_eq_false, not_false_eq_true, and_self, and_true, true_and, false_and, and_false, or_true, true_or, or_false, false_or, ↓btS, ↓bnS, ↓bdS, ↓jnS, ↓obS, c5, c6, hp]⟩)
      (fun n a hp => by
        rw [f_X0_ghosts_L23]
        simp (disch := omega) only [↓reduceIte, Bool.false_eq_true, nrm_i, ltT, ltF, leT, leF, eqT, eqF, not_true_eq_false, not_false_eq_true, and_self, and_true, true_and, false_and, and_false, or_true, true_or, or_false, false_or, ↓btS, ↓bnS, ↓bdS, ↓jnS, ↓obS, n_W hX hW, n_R hW, n_H hX hW, n_U hW, n_L hW, n_B hW, n_S hW, n_M hX, n_Ms hX, n_P, ↓i_t, ↓i_f, ↓man_t I, ↓man_f I, ↓room_t I, ↓room_f I, ↓mir_t I, ↓mir_f I, ↓pas_t I, ↓pas_f I, ↓h_men I, ↓h_rooms I, ↓h_mirrors I, ↓o_rcv hO, ↓o_gI hO, ↓o_g3 hO, ↓o_g7 hO, ↓o_g8 hO, ↓o_g12 hO, ↓c_ob hc, ↓cb_mi J, ↓c_g0b hc, ↓c_g1b hc, ↓c_g2b hc, ↓c_g3b hc, ↓c_g4b hc, ↓c_r0b hc, ↓c_r1b hc, ↓c_r2b hc, ↓c_r3b hc, ↓c_r4b hc, ↓cb_W J, ↓cb_R J, ↓cb_H J, ↓cb_U J, ↓cb_L J, ↓hb_shows J, ↓hb_menIn J, ↓hb_menShown J, ↓hb_isBroken J, ↓hb_bits])
    rw [e, p]
  · simp (disch := omega) only [↓reduceIte, Bool.false_eq_true, nrm_i, ltT, ltF, leT, leF, eqT, eqF, not_true_eq_false, not_false_eq_true, and_self, and_true, true_and, false_and, and_false, or_true, true_or, or_false, false_or, ↓btS, ↓bnS, ↓bdS, ↓jnS, ↓obS, n_W hX hW, n_R hW, n_H hX hW, n_U hW, n_L hW, n_B hW, n_S hW, n_M hX, n_Ms hX, n_P, ↓i_t, ↓i_f, ↓man_t I, ↓man_f I, ↓room_t I, ↓room_f I, ↓mir_t I, ↓mir_f I, ↓pas_t I, ↓pas_f I, ↓h_men I, ↓h_rooms I, ↓h_mirrors I, ↓o_rcv hO, ↓o_gI hO, ↓o_g3 hO, ↓o_g7 hO, ↓o_g8 hO, ↓o_g12 hO, ↓c_ob hc, ↓cb_mi J, ↓c_g0b hc, ↓c_g1b hc, ↓c_g2b hc, ↓c_g3b hc, ↓c_g4b hc, ↓c_r0b hc, ↓c_r1b hc, ↓c_r2b hc, ↓c_r3b hc, ↓c_r4b hc, ↓cb_W J, ↓cb_R J, ↓cb_H J, ↓cb_U J, ↓cb_L J, ↓hb_shows J, ↓hb_menIn J, ↓hb_menShown J, ↓hb_isBroken J, ↓hb_bits, c1]
theorem h_oldest (I : QI Z σ o r X K) {z : Int} (wz : wd z) : f_X0_oldest σ o z = some (q_oldest X K z, σ) := by
  obtain ⟨hO, hx, hZ, hK, hX, hW⟩ := I
  have I : QI Z σ o r X K := ⟨hO, hx, hZ, hK, hX, hW⟩
  have J := I.ci
  have hc := hO.court
  have a0 := hX.1
  have a1 := hX.2.2.1
  have a4 := hX.2.2.2.1
  have a2 := hW.1
  unfold f_X0_oldest q_oldest
  by_cases c1 : 0 ≤ z ∧ z ≤ 1
  · simp (disch := omega) only [↓reduceIte, Bool.false_eq_true, nrm_i, ltT, ltF, leT, leF, eqT, eqF, not_true_eq_false, not_false_eq_true, and_self, and_true, true_and, false_and, and_false, or_true, true_or, or_false, false_or, ↓btS, ↓bnS, ↓bdS, ↓jnS, ↓obS, n_W hX hW, n_R hW, n_H hX hW, n_U hW, n_L hW, n_B hW, n_S hW, n_M hX, n_Ms hX, n_P, ↓i_t, ↓i_f, ↓man_t I, ↓man_f I, ↓room_t I, ↓room_f I, ↓mir_t I, ↓mir_f I, ↓pas_t I, ↓pas_f I, ↓h_men I, ↓h_rooms I, ↓h_mirrors I, ↓o_rcv hO, ↓o_gI hO, ↓o_g3 hO, ↓o_g7 hO, ↓o_g8 hO, ↓o_g12 hO, ↓c_ob hc, ↓cb_mi J, ↓c_g0b hc, ↓c_g1b hc, ↓c_g2b hc, ↓c_g3b hc, ↓c_g4b hc, ↓c_r0b hc, ↓c_r1b hc, ↓c_r2b hc, ↓c_r3b hc, ↓c_r4b hc, ↓cb_W J, ↓cb_R J, ↓cb_H J, ↓cb_U J, ↓cb_L J, ↓hb_shows J, ↓hb_menIn J, ↓hb_menShown J, ↓hb_isBroken J, ↓hb_bits, c1]
    obtain ⟨e, p⟩ := loopI (fun n (a : Int × Int) i => f_X0_oldest_L20 o n σ z a.1 a.2 i (fun s17 x1 x2 x3 => (if ¬ nrm x1 = 0 then (some (nrm x3, s17)) else (some (nrm x2, s17))))) (fun a => if ¬ nrm z = 0 then some (nrm a.2, σ) else some (nrm a.1, σ)) (olG K) (fun i a => -2 ≤ a.1 ∧ a.1 < i + 1 ∧ -2 ≤ a.2 ∧ a.2 ≤ kMi K) (xK X).toNat 0 (fl := FU) (a0 := (-2, -2)) (by rw [FU_eq]; omega) ⟨by decide, by decide, by decide, by dsimp only; omega⟩ (fun n i a hi hp => by
        have hs := shw_le hW (k := i) (t := kMi K) (by omega) (by omega) a2.1 (Int.le_refl _)
        try dsimp only
        rw [f_X0_oldest_L20, Int.zero_add]
        unfold olG
        by_cases c6 : shw K i (kMi K) < 0
        · exact ⟨by simp (disch := omega) only [↓reduceIte, Bool.false_eq_true, nrm_i, ltT, ltF, leT, leF, eqT, eqF, not_true_eq_false, not_false_eq_true, and_self, and_true, true_and, false_and, and_false, or_true, true_or, or_false, false_or, ↓btS, ↓bnS, ↓bdS, ↓jnS, ↓obS, n_W hX hW, n_R hW, n_H hX hW, n_U hW, n_L hW, n_B hW, n_S hW, n_M hX, n_Ms hX, n_P, ↓i_t, ↓i_f, ↓man_t I, ↓man_f I, ↓room_t I, ↓room_f I, ↓mir_t I, ↓mir_f I, ↓pas_t I, ↓pas_f I, ↓h_men I, ↓h_rooms I, ↓h_mirrors I, ↓o_rcv hO, ↓o_gI hO, ↓o_g3 hO, ↓o_g7 hO, ↓o_g8 hO, ↓o_g12 hO, ↓c_ob hc, ↓cb_mi J, ↓c_g0b hc, ↓c_g1b hc, ↓c_g2b hc, ↓c_g3b hc, ↓c_g4b hc, ↓c_r0b hc, ↓c_r1b hc, ↓c_r2b hc, ↓c_r3b hc, ↓c_r4b hc, ↓cb_W J, ↓cb_R J, ↓cb_H J, ↓cb_U J, ↓cb_L J, ↓hb_shows J, ↓hb_menIn J, ↓hb_menShown J, ↓hb_isBroken J, ↓hb_bits, c6], by simp (disch := omega) only [↓reduceIte, Bool.false_eq_true, nrm_i, ltT, ltF, leT, leF, eqT, eqF, not_true_eq_false, not_false_eq_true, and_self, and_true, true_and, false_and, and_false, or_true, true_or, or_false, false_or, ↓btS, ↓bnS, ↓bdS, ↓jnS, ↓obS, c6] <;> omega⟩
        · by_cases c5 : a.1 < 0
          · exact ⟨by simp (disch := omega) only [↓reduceIte, Bool.false_eq_true, nrm_i, ltT, ltF, leT, leF, eqT, eqF, not_true_eq_false, not_false_eq_true, and_self, and_true, true_and, false_and, and_false, or_true, true_or, or_false, false_or, ↓btS, ↓bnS, ↓bdS, ↓jnS, ↓obS, n_W hX hW, n_R hW, n_H hX hW, n_U hW, n_L hW, n_B hW, n_S hW, n_M hX, n_Ms hX, n_P, ↓i_t, ↓i_f, ↓man_t I, ↓man_f I, ↓room_t I, ↓room_f I, ↓mir_t I, ↓mir_f I, ↓pas_t I, ↓pas_f I, ↓h_men I, ↓h_rooms I, ↓h_mirrors I, ↓o_rcv hO, ↓o_gI hO, ↓o_g3 hO, ↓o_g7 hO, ↓o_g8 hO, ↓o_g12 hO, ↓c_ob hc, ↓cb_mi J, ↓c_g0b hc, ↓c_g1b hc, ↓c_g2b hc, ↓c_g3b hc, ↓c_g4b hc, ↓c_r0b hc, ↓c_r1b hc, ↓c_r2b hc, ↓c_r3b hc, ↓c_r4b hc, ↓cb_W J, ↓cb_R J, ↓cb_H J, ↓cb_U J, ↓cb_L J, ↓hb_shows J, ↓hb_menIn J, ↓hb_menShown J, ↓hb_isBroken J, ↓hb_bits, c6], by simp (disch := omega) only [↓reduceIte, Bool.false_eq_true, nrm_i, ltT, ltF, leT, leF, eqT, eqF, not_true_eq_false, not_false_eq_true, and_self, and_true, true_and, false_and, and_false, or_true, true_or, or_false, false_or, ↓btS, ↓bnS, ↓bdS, ↓jnS, ↓obS, c6] <;> omega⟩
          · by_cases c7 : a.2 ≤ shw K i (kMi K)
            · exact ⟨by simp (disch := omega) only [↓reduceIte, Bool.false_eq_true, nrm_i, ltT, ltF, leT, leF, eqT, eqF, not_true_eq_false, not_false_eq_true, and_self, and_true, true_and, false_and, and_false, or_true, true_or, or_false, false_or, ↓btS, ↓bnS, ↓bdS, ↓jnS, ↓obS, n_W hX hW, n_R hW, n_H hX hW, n_U hW, n_L hW, n_B hW, n_S hW, n_M hX, n_Ms hX, n_P, ↓i_t, ↓i_f, ↓man_t I, ↓man_f I, ↓room_t I, ↓room_f I, ↓mir_t I, ↓mir_f I, ↓pas_t I, ↓pas_f I, ↓h_men I, ↓h_rooms I, ↓h_mirrors I, ↓o_rcv hO, ↓o_gI hO, ↓o_g3 hO, ↓o_g7 hO, ↓o_g8 hO, ↓o_g12 hO, ↓c_ob hc, ↓cb_mi J, ↓c_g0b hc, ↓c_g1b hc, ↓c_g2b hc, ↓c_g3b hc, ↓c_g4b hc, ↓c_r0b hc, ↓c_r1b hc, ↓c_r2b hc, ↓c_r3b hc, ↓c_r4b hc, ↓cb_W J, ↓cb_R J, ↓cb_H J, ↓cb_U J, ↓cb_L J, ↓hb_shows J, ↓hb_menIn J, ↓hb_menShown J, ↓hb_isBroken J, ↓hb_bits, c6], by simp (disch := omega) only [↓reduceIte, Bool.false_eq_true, nrm_i, ltT, ltF, leT, leF, eqT, eqF, not_true_eq_false, not_false_eq_true, and_self, and_true, true_and, false_and, and_false, or_true, true_or, or_false, false_or, ↓btS, ↓bnS, ↓bdS, ↓jnS, ↓obS, c6] <;> omega⟩
            · exact ⟨by simp (disch := omega) only [↓reduceIte, Bool.false_eq_true, nrm_i, ltT, ltF, leT, leF, eqT, eqF, not_true_eq_false, not_false_eq_true, and_self, and_true, true_and, false_and, and_false, or_true, true_or, or_false, false_or, ↓btS, ↓bnS, ↓bdS, ↓jnS, ↓obS, n_W hX hW, n_R hW, n_H hX hW, n_U hW, n_L hW, n_B hW, n_S hW, n_M hX, n_Ms hX, n_P, ↓i_t, ↓i_f, ↓man_t I, ↓man_f I, ↓room_t I, ↓room_f I, ↓mir_t I, ↓mir_f I, ↓pas_t I, ↓pas_f I, ↓h_men I, ↓h_rooms I, ↓h_mirrors I, ↓o_rcv hO, ↓o_gI hO, ↓o_g3 hO, ↓o_g7 hO, ↓o_g8 hO, ↓o_g12 hO, ↓c_ob hc, ↓cb_mi J, ↓c_g0b hc, ↓c_g1b hc, ↓c_g2b hc, ↓c_g3b hc, ↓c_g4b hc, ↓c_r0b hc, ↓c_r1b hc, ↓c_r2b hc, ↓c_r3b hc, ↓c_r4b hc, ↓cb_W J, ↓cb_R J, ↓cb_H J, ↓cb_U J, ↓cb_L J, ↓hb_shows J, ↓hb_menIn J, ↓hb_menShown J, ↓hb_isBroken J, ↓hb_bits, c6], by simp (disch := omega) only [↓reduceIte, Bool.false_eq_true, nrm_i, ltT, ltF, leT, leF, eqT, eqF, not_true_eq_false, not_false_eq_true, and_self, and_true, true_and, false_and, and_false, or_true, true_or, or_false, false_or, ↓btS, ↓bnS, ↓bdS, ↓jnS, ↓obS, c6] <;> omega⟩)
      (fun n a hp => by
        try dsimp only
        rw [f_X0_oldest_L20]
        simp (disch := omega) only [↓reduceIte, Bool.false_eq_true, nrm_i, ltT, ltF, leT, leF, eqT, eqF, not_true_eq_false, not_false_eq_true, and_self, and_true, true_and, false_and, and_false, or_true, true_or, or_false, false_or, ↓btS, ↓bnS, ↓bdS, ↓jnS, ↓obS, n_W hX hW, n_R hW, n_H hX hW, n_U hW, n_L hW, n_B hW, n_S hW, n_M hX, n_Ms hX, n_P, ↓i_t, ↓i_f, ↓man_t I, ↓man_f I, ↓room_t I, ↓room_f I, ↓mir_t I, ↓mir_f I, ↓pas_t I, ↓pas_f I, ↓h_men I, ↓h_rooms I, ↓h_mirrors I, ↓o_rcv hO, ↓o_gI hO, ↓o_g3 hO, ↓o_g7 hO, ↓o_g8 hO, ↓o_g12 hO, ↓c_ob hc, ↓cb_mi J, ↓c_g0b hc, ↓c_g1b hc, ↓c_g2b hc, ↓c_g3b hc, ↓c_g4b hc, ↓c_r0b hc, ↓c_r1b hc, ↓c_r2b hc, ↓c_r3b hc, ↓c_r4b hc, ↓cb_W J, ↓cb_R J, ↓cb_H J, ↓cb_U J, ↓cb_L J, ↓hb_shows J, ↓hb_menIn J, ↓hb_menShown J, ↓hb_isBroken J, ↓hb_bits])
    rw [e, nrm_i (z := z) (by omega) (by omega), nrm_i (by omega) (by omega), nrm_i (by omega) (by omega)]
    by_cases c5 : z = 0
    · simp (disch := omega) only [↓reduceIte, Bool.false_eq_true, nrm_i, ltT, ltF, leT, leF, eqT, eqF, not_true_eq_false, not_false_eq_true, and_self, and_true, true_and, false_and, and_false, or_true, true_or, or_false, false_or, ↓btS, ↓bnS, ↓bdS, ↓jnS, ↓obS, c5]
    · simp (disch := omega) only [↓reduceIte, Bool.false_eq_true, nrm_i, ltT, ltF, leT, leF, eqT, eqF, not_true_eq_false, not_false_eq_true, and_self, and_true, true_and, false_and, and_false, or_true, true_or, or_false, false_or, ↓btS, ↓bnS, ↓bdS, ↓jnS, ↓obS, c5]
  · simp (disch := omega) only [↓reduceIte, Bool.false_eq_true, nrm_i, ltT, ltF, leT, leF, eqT, eqF, not_true_eq_false, not_false_eq_true, and_self, and_true, true_and, false_and, and_false, or_true, true_or, or_false, false_or, ↓btS, ↓bnS, ↓bdS, ↓jnS, ↓obS, n_W hX hW, n_R hW, n_H hX hW, n_U hW, n_L hW, n_B hW, n_S hW, n_M hX, n_Ms hX, n_P, ↓i_t, ↓i_f, ↓man_t I, ↓man_f I, ↓room_t I, ↓room_f I, ↓mir_t I, ↓mir_f I, ↓pas_t I, ↓pas_f I, ↓h_men I, ↓h_rooms I, ↓h_mirrors I, ↓o_rcv hO, ↓o_gI hO, ↓o_g3 hO, ↓o_g7 hO, ↓o_g8 hO, ↓o_g12 hO, ↓c_ob hc, ↓cb_mi J, ↓c_g0b hc, ↓c_g1b hc, ↓c_g2b hc, ↓c_g3b hc, ↓c_g4b hc, ↓c_r0b hc, ↓c_r1b hc, ↓c_r2b hc, ↓c_r3b hc, ↓c_r4b hc, ↓cb_W J, ↓cb_R J, ↓cb_H J, ↓cb_U J, ↓cb_L J, ↓hb_shows J, ↓hb_menIn J, ↓hb_menShown J, ↓hb_isBroken J, ↓hb_bits, c1]
theorem h_crowd (I : QI Z σ o r X K) {x z : Int} (wx : wd x) (wz : wd z) : f_X0_crowd σ o x z = some (q_crowd X K x z, σ) := by
  obtain ⟨hO, hx, hZ, hK, hX, hW⟩ := I
  have I : QI Z σ o r X K := ⟨hO, hx, hZ, hK, hX, hW⟩
  have J := I.ci
  have hc := hO.court
  have a0 := hX.1
  have a1 := hX.2.2.1
  have a4 := hX.2.2.2.1
  have a2 := hW.1
  unfold f_X0_crowd q_crowd
  by_cases c1 : 0 ≤ x ∧ x ≤ kMi K <;> by_cases c2 : 0 ≤ z ∧ z ≤ 1
  · simp (disch := omega) only [↓reduceIte, Bool.false_eq_true, nrm_i, ltT, ltF, leT, leF, eqT, eqF, not_true_eq_false, not_false_eq_true, and_self, and_true, true_and, false_and, and_false, or_true, true_or, or_false, false_or, ↓btS, ↓bnS, ↓bdS, ↓jnS, ↓obS, n_W hX hW, n_R hW, n_H hX hW, n_U hW, n_L hW, n_B hW, n_S hW, n_M hX, n_Ms hX, n_P, ↓i_t, ↓i_f, ↓man_t I, ↓man_f I, ↓room_t I, ↓room_f I, ↓mir_t I, ↓mir_f I, ↓pas_t I, ↓pas_f I, ↓h_men I, ↓h_rooms I, ↓h_mirrors I, ↓o_rcv hO, ↓o_gI hO, ↓o_g3 hO, ↓o_g7 hO, ↓o_g8 hO, ↓o_g12 hO, ↓c_ob hc, ↓cb_mi J, ↓c_g0b hc, ↓c_g1b hc, ↓c_g2b hc, ↓c_g3b hc, ↓c_g4b hc, ↓c_r0b hc, ↓c_r1b hc, ↓c_r2b hc, ↓c_r3b hc, ↓c_r4b hc, ↓cb_W J, ↓cb_R J, ↓cb_H J, ↓cb_U J, ↓cb_L J, ↓hb_shows J, ↓hb_menIn J, ↓hb_menShown J, ↓hb_isBroken J, ↓hb_bits, c1, c2]
    have hp : ∀ i : Nat, 0 ≤ crF X K x i ∧ crF X K x i ≤ 8 := fun i => pcn_in _
    refine loop (S := Int × Int × Int) (fun n q => f_X0_crowd_L28 o n σ x z q.1 q.2.1 q.2.2 (fun s18 x2 x3 x4 => (if nrm x2 = 0 then (some (nrm x3, s18)) else ((if 0 ≤ nrm x3 then (some (nrm x4, s18)) else (some (nrm x3, s18))))))) (· = some (if xR X = 0 then -2 else if z = 0 then (amx (crF X K x) ((xR X).toNat - 1) : Int) else crF X K x (amx (crF X K x) ((xR X).toNat - 1)), σ)) (fun i q => q = (if i = 0 then (-2, -1, 0) else ((amx (crF X K x) (i - 1) : Int), crF X K x (amx (crF X K x) (i - 1)), (i : Int)))) (xR X).toNat ?_ ?_ (xR X).toNat 0 FU (-2, -1, 0) (by omega) (by rw [FU_eq]; omega) rfl
    · rintro n i q hi he
      right
      refine ⟨((amx (crF X K x) i : Int), crF X K x (amx (crF X K x) i), ((i + 1 : Nat) : Int)), ?_, by rw [if_neg (by omega)]; rfl⟩
      cases i with
      | zero =>
        subst he
        dsimp only
        rw [f_X0_crowd_L28]
        have hm := mIn_lt X hX K 0 x
        have h9 := pcn_in (mIn X K 0 x)
        simp (disch := omega) only [↓reduceIte, Bool.false_eq_true, nrm_i, ltT, ltF, leT, leF, eqT, eqF, not_true_eq_false, not_false_eq_true, and_self, and_true, true_and, false_and, and_false, or_true, true_or, or_false, false_or, ↓btS, ↓bnS, ↓bdS, ↓jnS, ↓obS, n_W hX hW, n_R hW, n_H hX hW, n_U hW, n_L hW, n_B hW, n_S hW, n_M hX, n_Ms hX, n_P, ↓i_t, ↓i_f, ↓man_t I, ↓man_f I, ↓room_t I, ↓room_f I, ↓mir_t I, ↓mir_f I, ↓pas_t I, ↓pas_f I, ↓h_men I, ↓h_rooms I, ↓h_mirrors I, ↓o_rcv hO, ↓o_gI hO, ↓o_g3 hO, ↓o_g7 hO, ↓o_g8 hO, ↓o_g12 hO, ↓c_ob hc, ↓cb_mi J, ↓c_g0b hc, ↓c_g1b hc, ↓c_g2b hc, ↓c_g3b hc, ↓c_g4b hc, ↓c_r0b hc, ↓c_r1b hc, ↓c_r2b hc, ↓c_r3b hc, ↓c_r4b hc, ↓cb_W J, ↓cb_R J, ↓cb_H J, ↓cb_U J, ↓cb_L J, ↓hb_shows J, ↓hb_menIn J, ↓hb_menShown J, ↓hb_isBroken J, ↓hb_bits]
        rfl
      | succ i =>
        rw [if_neg (by omega), Nat.add_sub_cancel] at he
        subst he
        dsimp only
        have hm := mIn_lt X hX K (i + 1 : Nat) x
        have hle := amx_le (crF X K x) i
        have h1 := hp (amx (crF X K x) i)
        have h2 := hp (i + 1)
        have h3 : pcn (mIn X K ((i + 1 : Nat) : Int) x) = crF X K x (i + 1) := rfl
        rw [f_X0_crowd_L28, amx]
        by_cases c : crF X K x (amx (crF X K x) i) < crF X K x (i + 1)
        · rw [if_pos c]; simp (disch := omega) only [↓reduceIte, Bool.false_eq_true, nrm_i, ltT, ltF, leT, leF, eqT, eqF, not_true_eq_false, not_false_eq_true, and_self, and_true, true_and, false_and, and_false, or_true, true_or, or_false, false_or, ↓btS, ↓bnS, ↓bdS, ↓jnS, ↓obS, n_W hX hW, n_R hW, n_H hX hW, n_U hW, n_L hW, n_B hW, n_S hW, n_M hX, n_Ms hX, n_P, ↓i_t, ↓i_f, ↓man_t I, ↓man_f I, ↓room_t I, ↓room_f I, ↓mir_t I, ↓mir_f I, ↓pas_t I, ↓pas_f I, ↓h_men I, ↓h_rooms I, ↓h_mirrors I, ↓o_rcv hO, ↓o_gI hO, ↓o_g3 hO, ↓o_g7 hO, ↓o_g8 hO, ↓o_g12 hO, ↓c_ob hc, ↓cb_mi J, ↓c_g0b hc, ↓c_g1b hc, ↓c_g2b hc, ↓c_g3b hc, ↓c_g4b hc, ↓c_r0b hc, ↓c_r1b hc, ↓c_r2b hc, ↓c_r3b hc, ↓c_r4b hc, ↓cb_W J, ↓cb_R J, ↓cb_H J, ↓cb_U J, ↓cb_L J, ↓hb_shows J, ↓hb_menIn J, ↓hb_menShown J, ↓hb_isBroken J, ↓hb_bits, h3]; rfl
        · rw [if_neg c]; simp (disch := omega) only [↓reduceIte, Bool.false_eq_true, nrm_i, ltT, ltF, leT, leF, eqT, eqF, not_true_eq_false, not_false_eq_true, and_self, and_true, true_and, false_and, and_false, or_true, true_or, or_false, false_or, ↓btS, ↓bnS, ↓bdS, ↓jnS, ↓obS, n_W hX hW, n_R hW, n_H hX hW, n_U hW, n_L hW, n_B hW, n_S hW, n_M hX, n_Ms hX, n_P, ↓i_t, ↓i_f, ↓man_t I, ↓man_f I, ↓room_t I, ↓room_f I, ↓mir_t I, ↓mir_f I, ↓pas_t I, ↓pas_f I, ↓h_men I, ↓h_rooms I, ↓h_mirrors I, ↓o_rcv hO, ↓o_gI hO, ↓o_g3 hO, ↓o_g7 hO, ↓o_g8 hO, ↓o_g12 hO, ↓c_ob hc, ↓cb_mi J, ↓c_g0b hc, ↓c_g1b hc, ↓c_g2b hc, ↓c_g3b hc, ↓c_g4b hc, ↓c_r0b hc, ↓c_r1b hc, ↓c_r2b hc, ↓c_r3b hc, ↓c_r4b hc, ↓cb_W J, ↓cb_R J, ↓cb_H J, ↓cb_U J, ↓cb_L J, ↓hb_shows J, ↓hb_menIn J, ↓hb_menShown J, ↓hb_isBroken J, ↓hb_bits, h3]; rfl
    · rintro n q he
      have hle := amx_le (crF X K x) ((xR X).toNat - 1)
      have h1 := hp (amx (crF X K x) ((xR X).toNat - 1))
      by_cases c : xR X = 0
      · rw [if_pos (by omega)] at he
        subst he
        dsimp only
        rw [f_X0_crowd_L28]
        by_cases c5 : z = 0 <;> simp (disch := omega) only [↓reduceIte, Bool.false_eq_true, nrm_i, ltT, ltF, leT, leF, eqT, eqF, not_true_eq_false, not_false_eq_true, and_self, and_true, true_and, false_and, and_false, or_true, true_or, or_false, false_or, ↓btS, ↓bnS, ↓bdS, ↓jnS, ↓obS, n_W hX hW, n_R hW, n_H hX hW, n_U hW, n_L hW, n_B hW, n_S hW, n_M hX, n_Ms hX, n_P, ↓i_t, ↓i_f, ↓man_t I, ↓man_f I, ↓room_t I, ↓room_f I, ↓mir_t I, ↓mir_f I, ↓pas_t I, ↓pas_f I, ↓h_men I, ↓h_rooms I, ↓h_mirrors I, ↓o_rcv hO, ↓o_gI hO, ↓o_g3 hO, ↓o_g7 hO, ↓o_g8 hO, ↓o_g12 hO, ↓c_ob hc, ↓cb_mi J, ↓c_g0b hc, ↓c_g1b hc, ↓c_g2b hc, ↓c_g3b hc, ↓c_g4b hc, ↓c_r0b hc, ↓c_r1b hc, ↓c_r2b hc, ↓c_r3b hc, ↓c_r4b hc, ↓cb_W J, ↓cb_R J, ↓cb_H J, ↓cb_U J, ↓cb_L J, ↓hb_shows J, ↓hb_menIn J, ↓hb_menShown J, ↓hb_isBroken J, ↓hb_bits]
      · rw [if_neg (by omega)] at he
        subst he
        dsimp only
        rw [f_X0_crowd_L28]
        by_cases c5 : z = 0 <;> simp (disch := omega) only [↓reduceIte, Bool.false_eq_true, nrm_i, ltT, ltF, leT, leF, eqT, eqF, not_true_eq_false, not_false_eq_true, and_self, and_true, true_and, false_and, and_false, or_true, true_or, or_false, false_or, ↓btS, ↓bnS, ↓bdS, ↓jnS, ↓obS, n_W hX hW, n_R hW, n_H hX hW, n_U hW, n_L hW, n_B hW, n_S hW, n_M hX, n_Ms hX, n_P, ↓i_t, ↓i_f, ↓man_t I, ↓man_f I, ↓room_t I, ↓room_f I, ↓mir_t I, ↓mir_f I, ↓pas_t I, ↓pas_f I, ↓h_men I, ↓h_rooms I, ↓h_mirrors I, ↓o_rcv hO, ↓o_gI hO, ↓o_g3 hO, ↓o_g7 hO, ↓o_g8 hO, ↓o_g12 hO, ↓c_ob hc, ↓cb_mi J, ↓c_g0b hc, ↓c_g1b hc, ↓c_g2b hc, ↓c_g3b hc, ↓c_g4b hc, ↓c_r0b hc, ↓c_r1b hc, ↓c_r2b hc, ↓c_r3b hc, ↓c_r4b hc, ↓cb_W J, ↓cb_R J, ↓cb_H J, ↓cb_U J, ↓cb_L J, ↓hb_shows J, ↓hb_menIn J, ↓hb_menShown J, ↓hb_isBroken J, ↓hb_bits]
  all_goals simp (disch := omega) only [↓reduceIte, Bool.false_eq_true, nrm_i, ltT, ltF, leT, leF, eqT, eqF, not_true_eq_false, not_false_eq_true, and_self, and_true, true_and, false_and, and_false, or_true, true_or, or_false, false_or, ↓btS, ↓bnS, ↓bdS, ↓jnS, ↓obS, n_W hX hW, n_R hW, n_H hX hW, n_U hW, n_L hW, n_B hW, n_S hW, n_M hX, n_Ms hX, n_P, ↓i_t, ↓i_f, ↓man_t I, ↓man_f I, ↓room_t I, ↓room_f I, ↓mir_t I, ↓mir_f I, ↓pas_t I, ↓pas_f I, ↓h_men I, ↓h_rooms I, ↓h_mirrors I, ↓o_rcv hO, ↓o_gI hO, ↓o_g3 hO, ↓o_g7 hO, ↓o_g8 hO, ↓o_g12 hO, ↓c_ob hc, ↓cb_mi J, ↓c_g0b hc, ↓c_g1b hc, ↓c_g2b hc, ↓c_g3b hc, ↓c_g4b hc, ↓c_r0b hc, ↓c_r1b hc, ↓c_r2b hc, ↓c_r3b hc, ↓c_r4b hc, ↓cb_W J, ↓cb_R J, ↓cb_H J, ↓cb_U J, ↓cb_L J, ↓hb_shows J, ↓hb_menIn J, ↓hb_menShown J, ↓hb_isBroken J, ↓hb_bits, c1, c2]
theorem h_stand (I : QI Z σ o r X K) {z : Int} (wz : wd z) : f_X0_stand σ o z = some (q_stand X K z, σ) := by
  obtain ⟨hO, hx, hZ, hK, hX, hW⟩ := I
  have I : QI Z σ o r X K := ⟨hO, hx, hZ, hK, hX, hW⟩
  have J := I.ci
  have hc := hO.court
  have a0 := hX.1
  have a1 := hX.2.2.1
  have a4 := hX.2.2.2.1
  have a2 := hW.1
  unfold f_X0_stand q_stand
  by_cases c2 : 0 ≤ z ∧ z ≤ 1
  · simp (disch := omega) only [↓reduceIte, Bool.false_eq_true, nrm_i, ltT, ltF, leT, leF, eqT, eqF, not_true_eq_false, not_false_eq_true, and_self, and_true, true_and, false_and, and_false, or_true, true_or, or_false, false_or, ↓btS, ↓bnS, ↓bdS, ↓jnS, ↓obS, n_W hX hW, n_R hW, n_H hX hW, n_U hW, n_L hW, n_B hW, n_S hW, n_M hX, n_Ms hX, n_P, ↓i_t, ↓i_f, ↓man_t I, ↓man_f I, ↓room_t I, ↓room_f I, ↓mir_t I, ↓mir_f I, ↓pas_t I, ↓pas_f I, ↓h_men I, ↓h_rooms I, ↓h_mirrors I, ↓o_rcv hO, ↓o_gI hO, ↓o_g3 hO, ↓o_g7 hO, ↓o_g8 hO, ↓o_g12 hO, ↓c_ob hc, ↓cb_mi J, ↓c_g0b hc, ↓c_g1b hc, ↓c_g2b hc, ↓c_g3b hc, ↓c_g4b hc, ↓c_r0b hc, ↓c_r1b hc, ↓c_r2b hc, ↓c_r3b hc, ↓c_r4b hc, ↓cb_W J, ↓cb_R J, ↓cb_H J, ↓cb_U J, ↓cb_L J, ↓hb_shows J, ↓hb_menIn J, ↓hb_menShown J, ↓hb_isBroken J, ↓hb_bits, c2]
    have hp : ∀ i : Nat, 0 ≤ sdF X K i ∧ sdF X K i ≤ 8 := fun i => pcn_in _
    refine loop (S := Int × Int × Int) (fun n q => f_X0_stand_L19 o n σ z q.1 q.2.1 q.2.2 (fun s17 x1 x2 x3 => (if nrm x1 = 0 then (some (nrm x2, s17)) else ((if 0 ≤ nrm x2 then (some (nrm x3, s17)) else (some (nrm x2, s17))))))) (· = some (if xR X = 0 then -2 else if z = 0 then (amx (sdF X K) ((xR X).toNat - 1) : Int) else sdF X K (amx (sdF X K) ((xR X).toNat - 1)), σ)) (fun i q => q = (if i = 0 then (-2, -1, 0) else ((amx (sdF X K) (i - 1) : Int), sdF X K (amx (sdF X K) (i - 1)), (i : Int)))) (xR X).toNat ?_ ?_ (xR X).toNat 0 FU (-2, -1, 0) (by omega) (by rw [FU_eq]; omega) rfl
    · rintro n i q hi he
      right
      refine ⟨((amx (sdF X K) i : Int), sdF X K (amx (sdF X K) i), ((i + 1 : Nat) : Int)), ?_, by rw [if_neg (by omega)]; rfl⟩
      cases i with
      | zero =>
        subst he
        dsimp only
        rw [f_X0_stand_L19]
        have hm := mFr_lt hX K 0 (kMi K)
        have h9 := pcn_in (mFr X K 0 (kMi K))
        simp (disch := omega) only [↓reduceIte, Bool.false_eq_true, nrm_i, ltT, ltF, leT, leF, eqT, eqF, not_true_eq_false, not_false_eq_true, and_self, and_true, true_and, false_and, and_false, or_true, true_or, or_false, false_or, ↓btS, ↓bnS, ↓bdS, ↓jnS, ↓obS, n_W hX hW, n_R hW, n_H hX hW, n_U hW, n_L hW, n_B hW, n_S hW, n_M hX, n_Ms hX, n_P, ↓i_t, ↓i_f, ↓man_t I, ↓man_f I, ↓room_t I, ↓room_f I, ↓mir_t I, ↓mir_f I, ↓pas_t I, ↓pas_f I, ↓h_men I, ↓h_rooms I, ↓h_mirrors I, ↓o_rcv hO, ↓o_gI hO, ↓o_g3 hO, ↓o_g7 hO, ↓o_g8 hO, ↓o_g12 hO, ↓c_ob hc, ↓cb_mi J, ↓c_g0b hc, ↓c_g1b hc, ↓c_g2b hc, ↓c_g3b hc, ↓c_g4b hc, ↓c_r0b hc, ↓c_r1b hc, ↓c_r2b hc, ↓c_r3b hc, ↓c_r4b hc, ↓cb_W J, ↓cb_R J, ↓cb_H J, ↓cb_U J, ↓cb_L J, ↓hb_shows J, ↓hb_menIn J, ↓hb_menShown J, ↓hb_isBroken J, ↓hb_bits, ↓hb_menFrom I]
        rfl
      | succ i =>
        rw [if_neg (by omega), Nat.add_sub_cancel] at he
        subst he
        dsimp only
        have hm := mFr_lt hX K (i + 1 : Nat) (kMi K)
        have hle := amx_le (sdF X K) i
        have h1 := hp (amx (sdF X K) i)
        have h2 := hp (i + 1)
        have h3 : pcn (mFr X K ((i + 1 : Nat) : Int) (kMi K)) = sdF X K (i + 1) := rfl
        rw [f_X0_stand_L19, amx]
        by_cases c : sdF X K (amx (sdF X K) i) < sdF X K (i + 1)
        · rw [if_pos c]; simp (disch := omega) only [↓reduceIte, Bool.false_eq_true, nrm_i, ltT, ltF, leT, leF, eqT, eqF, not_true_eq_false, not_false_eq_true, and_self, and_true, true_and, false_and, and_false, or_true, true_or, or_false, false_or, ↓btS, ↓bnS, ↓bdS, ↓jnS, ↓obS, n_W hX hW, n_R hW, n_H hX hW, n_U hW, n_L hW, n_B hW, n_S hW, n_M hX, n_Ms hX, n_P, ↓i_t, ↓i_f, ↓man_t I, ↓man_f I, ↓room_t I, ↓room_f I, ↓mir_t I, ↓mir_f I, ↓pas_t I, ↓pas_f I, ↓h_men I, ↓h_rooms I, ↓h_mirrors I, ↓o_rcv hO, ↓o_gI hO, ↓o_g3 hO, ↓o_g7 hO, ↓o_g8 hO, ↓o_g12 hO, ↓c_ob hc, ↓cb_mi J, ↓c_g0b hc, ↓c_g1b hc, ↓c_g2b hc, ↓c_g3b hc, ↓c_g4b hc, ↓c_r0b hc, ↓c_r1b hc, ↓c_r2b hc, ↓c_r3b hc, ↓c_r4b hc, ↓cb_W J, ↓cb_R J, ↓cb_H J, ↓cb_U J, ↓cb_L J, ↓hb_shows J, ↓hb_menIn J, ↓hb_menShown J, ↓hb_isBroken J, ↓hb_bits, ↓hb_menFrom I, h3]; rfl
        · rw [if_neg c]; simp (disch := omega) only [↓reduceIte, Bool.false_eq_true, nrm_i, ltT, ltF, leT, leF, eqT, eqF, not_true_eq_false, not_false_eq_true, and_self, and_true, true_and, false_and, and_false, or_true, true_or, or_false, false_or, ↓btS, ↓bnS, ↓bdS, ↓jnS, ↓obS, n_W hX hW, n_R hW, n_H hX hW, n_U hW, n_L hW, n_B hW, n_S hW, n_M hX, n_Ms hX, n_P, ↓i_t, ↓i_f, ↓man_t I, ↓man_f I, ↓room_t I, ↓room_f I, ↓mir_t I, ↓mir_f I, ↓pas_t I, ↓pas_f I, ↓h_men I, ↓h_rooms I, ↓h_mirrors I, ↓o_rcv hO, ↓o_gI hO, ↓o_g3 hO, ↓o_g7 hO, ↓o_g8 hO, ↓o_g12 hO, ↓c_ob hc, ↓cb_mi J, ↓c_g0b hc, ↓c_g1b hc, ↓c_g2b hc, ↓c_g3b hc, ↓c_g4b hc, ↓c_r0b hc, ↓c_r1b hc, ↓c_r2b hc, ↓c_r3b hc, ↓c_r4b hc, ↓cb_W J, ↓cb_R J, ↓cb_H J, ↓cb_U J, ↓cb_L J, ↓hb_shows J, ↓hb_menIn J, ↓hb_menShown J, ↓hb_isBroken J, ↓hb_bits, ↓hb_menFrom I, h3]; rfl
    · rintro n q he
      have hle := amx_le (sdF X K) ((xR X).toNat - 1)
      have h1 := hp (amx (sdF X K) ((xR X).toNat - 1))
      by_cases c : xR X = 0
      · rw [if_pos (by omega)] at he
        subst he
        dsimp only
        rw [f_X0_stand_L19]
        by_cases c5 : z = 0 <;> simp (disch := omega) only [↓reduceIte, Bool.false_eq_true, nrm_i, ltT, ltF, leT, leF, eqT, eqF, not_true_eq_false, not_false_eq_true, and_self, and_true, true_and, false_and, and_false, or_true, true_or, or_false, false_or, ↓btS, ↓bnS, ↓bdS, ↓jnS, ↓obS, n_W hX hW, n_R hW, n_H hX hW, n_U hW, n_L hW, n_B hW, n_S hW, n_M hX, n_Ms hX, n_P, ↓i_t, ↓i_f, ↓man_t I, ↓man_f I, ↓room_t I, ↓room_f I, ↓mir_t I, ↓mir_f I, ↓pas_t I, ↓pas_f I, ↓h_men I, ↓h_rooms I, ↓h_mirrors I, ↓o_rcv hO, ↓o_gI hO, ↓o_g3 hO, ↓o_g7 hO, ↓o_g8 hO, ↓o_g12 hO, ↓c_ob hc, ↓cb_mi J, ↓c_g0b hc, ↓c_g1b hc, ↓c_g2b hc, ↓c_g3b hc, ↓c_g4b hc, ↓c_r0b hc, ↓c_r1b hc, ↓c_r2b hc, ↓c_r3b hc, ↓c_r4b hc, ↓cb_W J, ↓cb_R J, ↓cb_H J, ↓cb_U J, ↓cb_L J, ↓hb_shows J, ↓hb_menIn J, ↓hb_menShown J, ↓hb_isBroken J, ↓hb_bits]
      · rw [if_neg (by omega)] at he
        subst he
        dsimp only
        rw [f_X0_stand_L19]
        by_cases c5 : z = 0 <;> simp (disch := omega) only [↓reduceIte, Bool.false_eq_true, nrm_i, ltT, ltF, leT, leF, eqT, eqF, not_true_eq_false, not_false_eq_true, and_self, and_true, true_and, false_and, and_false, or_true, true_or, or_false, false_or, ↓btS, ↓bnS, ↓bdS, ↓jnS, ↓obS, n_W hX hW, n_R hW, n_H hX hW, n_U hW, n_L hW, n_B hW, n_S hW, n_M hX, n_Ms hX, n_P, ↓i_t, ↓i_f, ↓man_t I, ↓man_f I, ↓room_t I, ↓room_f I, ↓mir_t I, ↓mir_f I, ↓pas_t I, ↓pas_f I, ↓h_men I, ↓h_rooms I, ↓h_mirrors I, ↓o_rcv hO, ↓o_gI hO, ↓o_g3 hO, ↓o_g7 hO, ↓o_g8 hO, ↓o_g12 hO, ↓c_ob hc, ↓cb_mi J, ↓c_g0b hc, ↓c_g1b hc, ↓c_g2b hc, ↓c_g3b hc, ↓c_g4b hc, ↓c_r0b hc, ↓c_r1b hc, ↓c_r2b hc, ↓c_r3b hc, ↓c_r4b hc, ↓cb_W J, ↓cb_R J, ↓cb_H J, ↓cb_U J, ↓cb_L J, ↓hb_shows J, ↓hb_menIn J, ↓hb_menShown J, ↓hb_isBroken J, ↓hb_bits]
  · simp (disch := omega) only [↓reduceIte, Bool.false_eq_true, nrm_i, ltT, ltF, leT, leF, eqT, eqF, not_true_eq_false, not_false_eq_true, and_self, and_true, true_and, false_and, and_false, or_true, true_or, or_false, false_or, ↓btS, ↓bnS, ↓bdS, ↓jnS, ↓obS, n_W hX hW, n_R hW, n_H hX hW, n_U hW, n_L hW, n_B hW, n_S hW, n_M hX, n_Ms hX, n_P, ↓i_t, ↓i_f, ↓man_t I, ↓man_f I, ↓room_t I, ↓room_f I, ↓mir_t I, ↓mir_f I, ↓pas_t I, ↓pas_f I, ↓h_men I, ↓h_rooms I, ↓h_mirrors I, ↓o_rcv hO, ↓o_gI hO, ↓o_g3 hO, ↓o_g7 hO, ↓o_g8 hO, ↓o_g12 hO, ↓c_ob hc, ↓cb_mi J, ↓c_g0b hc, ↓c_g1b hc, ↓c_g2b hc, ↓c_g3b hc, ↓c_g4b hc, ↓c_r0b hc, ↓c_r1b hc, ↓c_r2b hc, ↓c_r3b hc, ↓c_r4b hc, ↓cb_W J, ↓cb_R J, ↓cb_H J, ↓cb_U J, ↓cb_L J, ↓hb_shows J, ↓hb_menIn J, ↓hb_menShown J, ↓hb_isBroken J, ↓hb_bits, c2]
end
section
variable {s : TW} {X : Txt} {K : Crt} {β : Type}
theorem tb_isGlimpsed (J : TI s X K) {x y t : Int} (x0 : 0 ≤ x) (x1 : x < xM X) (y0 : 0 ≤ y) (y1 : y < xM X) (t0 : 0 ≤ t) (t1 : t ≤ kMi K) (f : Int → TW → Option β) : bt_ (f_X8_isGlimpsed s x y t) f = f (if (mFr X K (kW K x t) t).testBit y.toNat = true then 1 else 0) s := by
  have hX := J.1
  have hW := J.2.2.2
  have a0 := hX.1
  have a1 := hX.2.2.1
  have a4 := hX.2.2.2.1
  have a2 := hW.1
  have b3 := J.2.1.1
  have jmi := J.mi
  refine btP ?_ f
  unfold f_X8_isGlimpsed
  have hw := (hW.2.1 x t x0 x1 t0 t1).1
  have e := loopF (fun n i => f_X8_isGlimpsed_L3 n s x y t i (fun s12 => some (0, s12))) (some (0, s)) (fun _ => some (1, s)) (fun k => decide (kH K k t = kW K x t) && (mSh X K k t).testBit y.toNat) (xK X).toNat 0 (fl := FU) (by rw [FU_eq]; omega) (fun n i hi => by
        try dsimp only
        have hm := mSh_lt (K := K) hX (i : Int) t
        rw [f_X8_isGlimpsed_L3, Int.zero_add]
        by_cases c5 : kH K i t = kW K x t
        · by_cases c6 : (mSh X K i t).testBit y.toNat = true
          · simp (disch := omega) only [↓reduceIte, Bool.false_eq_true, nrm_i, ltT, ltF, leT, leF, eqT, eqF, not_true_eq_false, not_false_eq_true, and_self, and_true, true_and, false_and, and_false, or_true, true_or, or_false, false_or, ↓btS, ↓bnS, ↓bdS, ↓jnS, ↓obS, n_W hX hW, n_R hW, n_H hX hW, n_U hW, n_L hW, n_B hW, n_S hW, n_M hX, n_Ms hX, n_P, J.mi, ↓ti_t, ↓ti_f, ↓tv_W J, ↓tv_L J, ↓tv_B J, ↓tb56, w_W J, w_R J, w_L J, ↓tb_menIn J, ↓tb_showsAt J, ↓tb_hungIn J, ↓tb_isTurned J, ↓tb_menShown J, ↓tb_menShown2 J, ↓tb_bits, ↓tz_R J.2.1, ↓tz_M J.2.1, ↓tz_K J.2.1, srb, c5, c6, decide_true, Bool.and_self]
          · simp (disch := omega) only [↓reduceIte, Bool.false_eq_true, nrm_i, ltT, ltF, leT, leF, eqT, eqF, not_true_eq_false, not_false_eq_true, and_self, and_true, true_and, false_and, and_false, or_true, true_or, or_false, false_or, ↓btS, ↓bnS, ↓bdS, ↓jnS, ↓obS, n_W hX hW, n_R hW, n_H hX hW, n_U hW, n_L hW, n_B hW, n_S hW, n_M hX, n_Ms hX, n_P, J.mi, ↓ti_t, ↓ti_f, ↓tv_W J, ↓tv_L J, ↓tv_B J, ↓tb56, w_W J, w_R J, w_L J, ↓tb_menIn J, ↓tb_showsAt J, ↓tb_hungIn J, ↓tb_isTurned J, ↓tb_menShown J, ↓tb_menShown2 J, ↓tb_bits, ↓tz_R J.2.1, ↓tz_M J.2.1, ↓tz_K J.2.1, srb, c5, c6, decide_true, Bool.true_and]
        · simp (disch := omega) only [↓reduceIte, Bool.false_eq_true, nrm_i, ltT, ltF, leT, leF, eqT, eqF, not_true_eq_false, not_false_eq_true, and_self, and_true, true_and, false_and, and_false, or_true, true_or, or_false, false_or, ↓btS, ↓bnS, ↓bdS, ↓jnS, ↓obS, n_W hX hW, n_R hW, n_H hX hW, n_U hW, n_L hW, n_B hW, n_S hW, n_M hX, n_Ms hX, n_P, J.mi, ↓ti_t, ↓ti_f, ↓tv_W J, ↓tv_L J, ↓tv_B J, ↓tb56, w_W J, w_R J, w_L J, ↓tb_menIn J, ↓tb_showsAt J, ↓tb_hungIn J, ↓tb_isTurned J, ↓tb_menShown J, ↓tb_menShown2 J, ↓tb_bits, ↓tz_R J.2.1, ↓tz_M J.2.1, ↓tz_K J.2.1, c5, decide_false, Bool.false_and])
      (fun n => by
        try dsimp only
        rw [f_X8_isGlimpsed_L3]
        simp (disch := omega) only [↓reduceIte, Bool.false_eq_true, nrm_i, ltT, ltF, leT, leF, eqT, eqF, not_true_eq_false, not_false_eq_true, and_self, and_true, true_and, false_and, and_false, or_true, true_or, or_false, false_or, ↓btS, ↓bnS, ↓bdS, ↓jnS, ↓obS, n_W hX hW, n_R hW, n_H hX hW, n_U hW, n_L hW, n_B hW, n_S hW, n_M hX, n_Ms hX, n_P, J.mi, ↓ti_t, ↓ti_f, ↓tv_W J, ↓tv_L J, ↓tv_B J, ↓tb56, w_W J, w_R J, w_L J, ↓tb_menIn J, ↓tb_showsAt J, ↓tb_hungIn J, ↓tb_isTurned J, ↓tb_menShown J, ↓tb_menShown2 J, ↓tb_bits, ↓tz_R J.2.1, ↓tz_M J.2.1, ↓tz_K J.2.1])
  refine e.trans ((fnd_if _ _ _ _).trans ?_)
  rw [← mFr_bit]
  by_cases h : (mFr X K (kW K x t) t).testBit y.toNat = true
  · rw [if_pos h, if_pos h]
  · rw [if_neg h, if_neg h]
theorem t_glimpses (Q : TQ s X K) {x y z : Int} (wx : wd x) (wy : wd y) (wz : wd z) : ∃ s' : TW, f_X8_glimpses s x y z = some (q_glimpses X K x y z, s') ∧ chg qk qf s s' := by
  obtain ⟨hX, hs, hn, hW⟩ := Q
  have Q : TQ s X K := ⟨hX, hs, hn, hW⟩
  have hmi := Q.mi
  have a0 := hX.1
  have a1 := hX.2.2.1
  have a4 := hX.2.2.2.1
  have a3 := hs.1
  have a2 := hW.1
  obtain ⟨s1, e1, J, l1, C⟩ := Q.copies
  have C := C.up (ks' := qk) (fs' := qf) (by decide) (by decide)
  have b3 := J.2.1.1
  have jmi := J.mi
  unfold f_X8_glimpses q_glimpses
  by_cases G : (0 ≤ x ∧ x < xM X) ∧ (0 ≤ y ∧ y < xM X) ∧ ¬ x = y ∧ (0 ≤ z ∧ z ≤ 1)
  · obtain ⟨c1, c2, c3, c4⟩ := G
    refine ⟨s1, ?_, C⟩
    simp (disch := omega) only [↓reduceIte, Bool.false_eq_true, nrm_i, ltT, ltF, leT, leF, eqT, eqF, not_true_eq_false, not_false_eq_true, and_self, and_true, true_and, false_and, and_false, or_true, true_or, or_false, false_or, ↓btS, ↓bnS, ↓bdS, ↓jnS, ↓obS, n_W hX hW, n_R hW, n_H hX hW, n_U hW, n_L hW, n_B hW, n_S hW, n_M hX, n_Ms hX, n_P, ↓ti_t, ↓ti_f, ↓tman_t hX hs, ↓tman_f hX hs, ↓troom_t hX hs, ↓troom_f hX hs, ↓tmir_t hX hs, ↓tmir_f hX hs, ↓tpas_t hn hW, ↓tpas_f hn hW, hmi, ↓pv_W Q, ↓pv_R Q, ↓pv_B Q, ↓tb52, p_W Q, p_R Q, ↓tz_R hs, ↓tz_M hs, ↓tz_K hs, ↓btP e1, c1, c2, c3, c4]
    obtain ⟨e, p⟩ := loopI (fun n (a : Int × Int) i => f_X8_glimpses_L46 n s1 x y z a.1 a.2 i (fun s13 x3 x4 x5 => (if ¬ nrm x3 = 0 then (some (nrm x5, s13)) else (some (nrm x4, s13))))) (fun a => if ¬ nrm z = 0 then (some (nrm a.2, s1)) else (some (nrm a.1, s1))) (glG X K x y) (fun i a => (0 ≤ a.1 ∧ a.1 ≤ i ∧ -2 ≤ a.2 ∧ a.2 ≤ i) ∧ (a.1 = 0 ∧ a.2 < 0 ∨ 0 < a.1 ∧ 0 ≤ a.2)) (kMi K + 1).toNat 0 (fl := FU) (a0 := (0, -2)) (by rw [FU_eq]; omega) ⟨⟨by decide, by decide, by decide, by decide⟩, Or.inl ⟨rfl, by decide⟩⟩ (fun n i a hi hp => by
        try dsimp only
        rw [f_X8_glimpses_L46, Int.zero_add]
        unfold glG
        by_cases c5 : (mFr X K (kW K x i) i).testBit y.toNat = true
        · by_cases c6 : a.2 < 0
          · exact ⟨by simp (disch := omega) only [↓reduceIte, Bool.false_eq_true, nrm_i, ltT, ltF, leT, leF, eqT, eqF, not_true_eq_false, not_false_eq_true, and_self, and_true, true_and, false_and, and_false, or_true, true_or, or_false, false_or, ↓btS, ↓bnS, ↓bdS, ↓jnS, ↓obS, n_W hX hW, n_R hW, n_H hX hW, n_U hW, n_L hW, n_B hW, n_S hW, n_M hX, n_Ms hX, n_P, J.mi, ↓ti_t, ↓ti_f, ↓tv_W J, ↓tv_L J, ↓tv_B J, ↓tb56, w_W J, w_R J, w_L J, ↓tb_menIn J, ↓tb_showsAt J, ↓tb_hungIn J, ↓tb_isTurned J, ↓tb_menShown J, ↓tb_menShown2 J, ↓tb_bits, ↓tz_R J.2.1, ↓tz_M J.2.1, ↓tz_K J.2.1, ↓tb_isGlimpsed J, c5, c6], by simp (disch := omega) only [↓reduceIte, Bool.false_eq_true, nrm_i, ltT, ltF, leT, leF, eqT, eqF, not_true_eq_false, not_false_eq_true, and_self, and_true, true_and, false_and, and_false, or_true, true_or, or_false, false_or, ↓btS, ↓bnS, ↓bdS, ↓jnS, ↓obS, c5, c6] <;> omega⟩
          · exact ⟨by simp (disch := omega) only [↓reduceIte, Bool.false_eq_true, nrm_i, ltT, ltF, leT, leF, eqT, eqF, not_true_eq_false, not_false_eq_true, and_self, and_true, true_and, false_and, and_false, or_true, true_or, or_false, false_or, ↓btS, ↓bnS, ↓bdS, ↓jnS, ↓obS, n_W hX hW, n_R hW, n_H hX hW, n_U hW, n_L hW, n_B hW, n_S hW, n_M hX, n_Ms hX, n_P, J.mi, ↓ti_t, ↓ti_f, ↓tv_W J, ↓tv_L J, ↓tv_B J, ↓tb56, w_W J, w_R J, w_L J, ↓tb_menIn J, ↓tb_showsAt J, ↓tb_hungIn J, ↓tb_isTurned J, ↓tb_menShown J, ↓tb_menShown2 J, ↓tb_bits, ↓tz_R J.2.1, ↓tz_M J.2.1, ↓tz_K J.2.1, ↓tb_isGlimpsed J, c5, c6], by simp (disch := omega) only [↓reduceIte, Bool.false_eq_true, nrm_i, ltT, ltF, leT, leF, eqT, eqF, not_true_eq_false, not_false_eq_true, and_self, and_true, true_and, false_and, and_false, or_true, true_or, or_false, false_or, ↓btS, ↓bnS, ↓bdS, ↓jnS, ↓obS, c5, c6] <;> omega⟩
        · exact ⟨by simp (disch := omega) only [↓reduceIte, Bool.false_eq_true, nrm_i, ltT, ltF, leT, leF, eqT, eqF, not_true_eq_false, not_false_eq_true, and_self, and_true, true_and, false_and, and_false, or_true, true_or, or_false, false_or, ↓btS, ↓bnS, ↓bdS, ↓jnS, ↓obS, n_W hX hW, n_R hW, n_H hX hW, n_U hW, n_L hW, n_B hW, n_S hW, n_M hX, n_Ms hX, n_P, J.mi, ↓ti_t, ↓ti_f, ↓tv_W J, ↓tv_L J, ↓tv_B J, ↓tb56, w_W J, w_R J, w_L J, ↓tb_menIn J, ↓tb_showsAt J, ↓tb_hungIn J, ↓tb_isTurned J, ↓tb_menShown J, ↓tb_menShown2 J, ↓tb_bits, ↓tz_R J.2.1, ↓tz_M J.2.1, ↓tz_K J.2.1, ↓tb_isGlimpsed J, c5], by simp (disch := omega) only [↓reduceIte, Bool.false_eq_true, nrm_i, ltT, ltF, leT, leF, eqT, eqF, not_true_eq_false, not_false_eq_true, and_self, and_true, true_and, false_and, and_false, or_true, true_or, or_false, false_or, ↓btS, ↓bnS, ↓bdS, ↓jnS, ↓obS, c5] <;> omega⟩)
      (fun n a hp => by
        try dsimp only
        rw [f_X8_glimpses_L46]
        simp (disch := omega) only [↓reduceIte, Bool.false_eq_true, nrm_i, ltT, ltF, leT, leF, eqT, eqF, not_true_eq_false, not_false_eq_true, and_self, and_true, true_and, false_and, and_false, or_true, true_or, or_false, false_or, ↓btS, ↓bnS, ↓bdS, ↓jnS, ↓obS, n_W hX hW, n_R hW, n_H hX hW, n_U hW, n_L hW, n_B hW, n_S hW, n_M hX, n_Ms hX, n_P, J.mi, ↓ti_t, ↓ti_f, ↓tv_W J, ↓tv_L J, ↓tv_B J, ↓tb56, w_W J, w_R J, w_L J, ↓tb_menIn J, ↓tb_showsAt J, ↓tb_hungIn J, ↓tb_isTurned J, ↓tb_menShown J, ↓tb_menShown2 J, ↓tb_bits, ↓tz_R J.2.1, ↓tz_M J.2.1, ↓tz_K J.2.1])
    rw [e, nrm_i (z := z) (by omega) (by omega), nrm_i (by omega) (by omega), nrm_i (by omega) (by omega)]
    by_cases c5 : z = 0
    · simp (disch := omega) only [↓reduceIte, Bool.false_eq_true, nrm_i, ltT, ltF, leT, leF, eqT, eqF, not_true_eq_false, not_false_eq_true, and_self, and_true, true_and, false_and, and_false, or_true, true_or, or_false, false_or, ↓btS, ↓bnS, ↓bdS, ↓jnS, ↓obS, c5]
    · simp (disch := omega) only [↓reduceIte, Bool.false_eq_true, nrm_i, ltT, ltF, leT, leF, eqT, eqF, not_true_eq_false, not_false_eq_true, and_self, and_true, true_and, false_and, and_false, or_true, true_or, or_false, false_or, ↓btS, ↓bnS, ↓bdS, ↓jnS, ↓obS, c5]
  · rw [if_neg G]
    refine ⟨s, ?_, chg.rf _ _ _⟩
    by_cases c1 : 0 ≤ x ∧ x < xM X
    · by_cases c2 : 0 ≤ y ∧ y < xM X
      · by_cases c3 : ¬ x = y
        · by_cases c4 : 0 ≤ z ∧ z ≤ 1
          · exact absurd ⟨c1, c2, c3, c4⟩ G
          · simp (disch := omega) only [↓reduceIte, Bool.false_eq_true, nrm_i, ltT, ltF, leT, leF, eqT, eqF, not_true_eq_false, not_false_eq_true, and_self, and_true, true_and, false_and, and_false, or_true, true_or, or_false, false_or, ↓btS, ↓bnS, ↓bdS, ↓jnS, ↓obS, n_W hX hW, n_R hW, n_H hX hW, n_U hW, n_L hW, n_B hW, n_S hW, n_M hX, n_Ms hX, n_P, ↓ti_t, ↓ti_f, ↓tman_t hX hs, ↓tman_f hX hs, ↓troom_t hX hs, ↓troom_f hX hs, ↓tmir_t hX hs, ↓tmir_f hX hs, ↓tpas_t hn hW, ↓tpas_f hn hW, hmi, ↓pv_W Q, ↓pv_R Q, ↓pv_B Q, ↓tb52, p_W Q, p_R Q, ↓tz_R hs, ↓tz_M hs, ↓tz_K hs]
        · simp (disch := omega) only [↓reduceIte, Bool.false_eq_true, nrm_i, ltT, ltF, leT, leF, eqT, eqF, not_true_eq_false, not_false_eq_true, and_self, and_true, true_and, false_and, and_false, or_true, true_or, or_false, false_or, ↓btS, ↓bnS, ↓bdS, ↓jnS, ↓obS, n_W hX hW, n_R hW, n_H hX hW, n_U hW, n_L hW, n_B hW, n_S hW, n_M hX, n_Ms hX, n_P, ↓ti_t, ↓ti_f, ↓tman_t hX hs, ↓tman_f hX hs, ↓troom_t hX hs, ↓troom_f hX hs, ↓tmir_t hX hs, ↓tmir_f hX hs, ↓tpas_t hn hW, ↓tpas_f hn hW, hmi, ↓pv_W Q, ↓pv_R Q, ↓pv_B Q, ↓tb52, p_W Q, p_R Q, ↓tz_R hs, ↓tz_M hs, ↓tz_K hs]
      · simp (disch := omega) only [↓reduceIte, Bool.false_eq_true, nrm_i, ltT, ltF, leT, leF, eqT, eqF, not_true_eq_false, not_false_eq_true, and_self, and_true, true_and, false_and, and_false, or_true, true_or, or_false, false_or, ↓btS, ↓bnS, ↓bdS, ↓jnS, ↓obS, n_W hX hW, n_R hW, n_H hX hW, n_U hW, n_L hW, n_B hW, n_S hW, n_M hX, n_Ms hX, n_P, ↓ti_t, ↓ti_f, ↓tman_t hX hs, ↓tman_f hX hs, ↓troom_t hX hs, ↓troom_f hX hs, ↓tmir_t hX hs, ↓tmir_f hX hs, ↓tpas_t hn hW, ↓tpas_f hn hW, hmi, ↓pv_W Q, ↓pv_R Q, ↓pv_B Q, ↓tb52, p_W Q, p_R Q, ↓tz_R hs, ↓tz_M hs, ↓tz_K hs]
    · simp (disch := omega) only [↓reduceIte, Bool.false_eq_true, nrm_i, ltT, ltF, leT, leF, eqT, eqF, not_true_eq_false, not_false_eq_true, and_self, and_true, true_and, false_and, and_false, or_true, true_or, or_false, false_or, ↓btS, ↓bnS, ↓bdS, ↓jnS, ↓obS, n_W hX hW, n_R hW, n_H hX hW, n_U hW, n_L hW, n_B hW, n_S hW, n_M hX, n_Ms hX, n_P, ↓ti_t, ↓ti_f, ↓tman_t hX hs, ↓tman_f hX hs, ↓troom_t hX hs, ↓troom_f hX hs, ↓tmir_t hX hs, ↓tmir_f hX hs, ↓tpas_t hn hW, ↓tpas_f hn hW, hmi, ↓pv_W Q, ↓pv_R Q, ↓pv_B Q, ↓tb52, p_W Q, p_R Q, ↓tz_R hs, ↓tz_M hs, ↓tz_K hs]
theorem t_ghosts (Q : TQ s X K) {x : Int} (wx : wd x) : ∃ s' : TW, f_X8_ghosts s x = some (q_ghosts X K x, s') ∧ chg qk qf s s' := by
  obtain ⟨hX, hs, hn, hW⟩ := Q
  have Q : TQ s X K := ⟨hX, hs, hn, hW⟩
  have hmi := Q.mi
  have a0 := hX.1
  have a1 := hX.2.2.1
  have a4 := hX.2.2.2.1
  have a3 := hs.1
  have a2 := hW.1
  obtain ⟨s1, e1, J, l1, C⟩ := Q.copies
  have C := C.up (ks' := qk) (fs' := qf) (by decide) (by decide)
  have b3 := J.2.1.1
  have jmi := J.mi
  unfold f_X8_ghosts q_ghosts
  by_cases c1 : 0 ≤ x ∧ x < xR X
  · refine ⟨s1, ?_, C⟩
    simp (disch := omega) only [↓reduceIte, Bool.false_eq_true, nrm_i, ltT, ltF, leT, leF, eqT, eqF, not_true_eq_false, not_false_eq_true, and_self, and_true, true_and, false_and, and_false, or_true, true_or, or_false, false_or, ↓btS, ↓bnS, ↓bdS, ↓jnS, ↓obS, n_W hX hW, n_R hW, n_H hX hW, n_U hW, n_L hW, n_B hW, n_S hW, n_M hX, n_Ms hX, n_P, ↓ti_t, ↓ti_f, ↓tman_t hX hs, ↓tman_f hX hs, ↓troom_t hX hs, ↓troom_f hX hs, ↓tmir_t hX hs, ↓tmir_f hX hs, ↓tpas_t hn hW, ↓tpas_f hn hW, hmi, ↓pv_W Q, ↓pv_R Q, ↓pv_B Q, ↓tb52, p_W Q, p_R Q, ↓tz_R hs, ↓tz_M hs, ↓tz_K hs, ↓btP e1, c1]
    obtain ⟨e, p⟩ := loopI (fun n (a : Int) i => f_X8_ghosts_L18 n s1 x a i (fun s18 x2 => some (nrm x2, s18))) (fun a => some (nrm a, s1)) (ghG X K x) (fun i a => nrm a = a) (xK X).toNat 0 (fl := FU) (a0 := 0) (by rw [FU_eq]; omega) nrm_0 (fun n i a hi hp => by
        have hsw := shw_le hW (k := i) (t := kMi K) (by omega) (by omega) a2.1 (Int.le_refl _)
        rw [f_X8_ghosts_L18, Int.zero_add]
        unfold ghG
        by_cases c6 : 0 ≤ shw K i (kMi K)
        · have hh := (hW.2.2.1 i (shw K i (kMi K)) (by omega) (by omega) c6 (by omega)).1
          have hms : mSh X K i (kMi K) = mIn X K (kH K i (shw K i (kMi K))) (shw K i (kMi K)) := by unfold mSh; rw [if_pos c6]
          by_cases c5 : kH K i (kMi K) = x
          · exact ⟨by simp (disch := omega) only [↓reduceIte, Bool.false_eq_true, nrm_i, ltT, ltF, leT, leF, eqT, eqF, not_true_eq_false, not_false_eq_true, and_self, and_true, true_and, false_and, and_false, or_true, true_or, or_false, false_or, ↓btS, ↓bnS, ↓bdS, ↓jnS, ↓obS, n_W hX hW, n_R hW, n_H hX hW, n_U hW, n_L hW, n_B hW, n_S hW, n_M hX, n_Ms hX, n_P, J.mi, ↓ti_t, ↓ti_f, ↓tv_W J, ↓tv_L J, ↓tv_B J, ↓tb56, w_W J, w_R J, w_L J, ↓tb_menIn J, ↓tb_showsAt J, ↓tb_hungIn J, ↓tb_isTurned J, ↓tb_menShown J, ↓tb_menShown2 J, ↓tb_bits, ↓tz_R J.2.1, ↓tz_M J.2.1, ↓tz_K J.2.1, c5, c6, hms], by simp (disch := omega) only [↓reduceIte, Bool.false_eq_true, nrm_i, ltT, ltF, leT, leF, eqT, eqF, not_true_eq_false, not_false_eq_true, and_self, and_true, true_and, false_and, and_false, or_true, true_or, or_false, false_or, ↓btS, ↓bnS, ↓bdS, ↓jnS, ↓obS, c5, c6, n_o]⟩
          · exact ⟨by simp (disch := omega) only [↓reduceIte, Bool.false_eq_true, nrm_i, ltT, ltF, leT, leF, eqT, eqF, not_true_eq_false, not_false_eq_true, and_self, and_true, true_and, false_and, and_false, or_true, true_or, or_false, false_or, ↓btS, ↓bnS, ↓bdS, ↓jnS, ↓obS, n_W hX hW, n_R hW, n_H hX hW, n_U hW, n_L hW, n_B hW, n_S hW, n_M hX, n_Ms hX, n_P, J.mi, ↓ti_t, ↓ti_f, ↓tv_W J, ↓tv_L J, ↓tv_B J, ↓tb56, w_W J, w_R J, w_L J, ↓tb_menIn J, ↓tb_showsAt J, ↓tb_hungIn J, ↓tb_isTurned J, ↓tb_menShown J, ↓tb_menShown2 J, ↓tb_bits, ↓tz_R J.2.1, ↓tz_M J.2.1, ↓tz_K J.2.1, c5, c6], by simp (disch := omega) only [↓reduceIte, Bool.false_eq_true, nrm_i, ltT, ltF, leT, leF, eqT, eqF, not_true_eq_false, not_false_eq_true, and_self, and_true, true_and, false_and, and_false, or_true, true_or, or_false, false_or, ↓btS, ↓bnS, ↓bdS, ↓jnS, ↓obS, c5, c6, hp]⟩
        · by_cases c5 : kH K i (kMi K) = x
          · exact ⟨by simp (disch := omega) only [↓reduceIte, Bool.false_eq_true, nrm_i, ltT, ltF, leT, leF, eqT, eqF, not_true_eq_false, not_false_eq_true, and_self, and_true, true_and, false_and, and_false, or_true, true_or, or_false, false_or, ↓btS, ↓bnS, ↓bdS, ↓jnS, ↓obS, n_W hX hW, n_R hW, n_H hX hW, n_U hW, n_L hW, n_B hW, n_S hW, n_M hX, n_Ms hX, n_P, J.mi, ↓ti_t, ↓ti_f, ↓tv_W J, ↓tv_L J, ↓tv_B J, ↓tb56, w_W J, w_R J, w_L J, ↓tb_menIn J, ↓tb_showsAt J, ↓tb_hungIn J, ↓tb_isTurned J, ↓tb_menShown J, ↓tb_menShown2 J, ↓tb_bits, ↓tz_R J.2.1, ↓tz_M J.2.1, ↓tz_K J.2.1, c5, c6], by simp (disch := omega) only [↓reduceIte, Bool.false_eq_true, nrm_i, ltT, ltF, leT, leF, eqT, eqF, not_true_eq_false, not_false_eq_true, and_self, and_true, true_and, false_and, and_false, or_true, true_or, or_false, false_or, ↓btS, ↓bnS, ↓bdS, ↓jnS, ↓obS, c5, c6, hp]⟩
          · exact ⟨by simp (disch := omega) only [↓reduceIte, Bool.false_eq_true, nrm_i, ltT, ltF, leT, leF, eqT, eqF, not_true_eq_false, not_false_eq_true, and_self, and_true, true_and, false_and, and_false, or_true, true_or, or_false, false_or, ↓btS, ↓bnS, ↓bdS, ↓jnS, ↓obS, n_W hX hW, n_R hW, n_H hX hW, n_U hW, n_L hW, n_B hW, n_S hW, n_M hX, n_Ms hX, n_P, J.mi, ↓ti_t, ↓ti_f, ↓tv_W J, ↓tv_L J, ↓tv_B J, ↓tb56, w_W J, w_R J, w_L J, ↓tb_menIn J, ↓tb_showsAt J, ↓tb_hungIn J, ↓tb_isTurned J, ↓tb_menShown J, ↓tb_menShown2 J, ↓tb_bits, ↓tz_R J.2.1, ↓tz_M J.2.1, ↓tz_K J.2.1, c5, c6], by simp (disch := omega) only [↓reduceIte, Bool.false_eq_true, nrm_i, ltT, ltF, leT, leF, eqT, eqF, not_true_eq_false, not_false_eq_true, and_self, and_true, true_and, false_and, and_false, or_true, true_or, or_false, false_or, ↓btS, ↓bnS, ↓bdS, ↓jnS, ↓obS, c5, c6, hp]⟩)
      (fun n a hp => by
        rw [f_X8_ghosts_L18]
        simp (disch := omega) only [↓reduceIte, Bool.false_eq_true, nrm_i, ltT, ltF, leT, leF, eqT, eqF, not_true_eq_false, not_false_eq_true, and_self, and_true, true_and, false_and, and_false, or_true, true_or, or_false, false_or, ↓btS, ↓bnS, ↓bdS, ↓jnS, ↓obS, n_W hX hW, n_R hW, n_H hX hW, n_U hW, n_L hW, n_B hW, n_S hW, n_M hX, n_Ms hX, n_P, J.mi, ↓ti_t, ↓ti_f, ↓tv_W J, ↓tv_L J, ↓tv_B J, ↓tb56, w_W J, w_R J, w_L J, ↓tb_menIn J, ↓tb_showsAt J, ↓tb_hungIn J, ↓tb_isTurned J, ↓tb_menShown J, ↓tb_menShown2 J, ↓tb_bits, ↓tz_R J.2.1, ↓tz_M J.2.1, ↓tz_K J.2.1])
    rw [e, p]
  · exact ⟨s, by simp (disch := omega) only [↓reduceIte, Bool.false_eq_true, nrm_i, ltT, ltF, leT, leF, eqT, eqF, not_true_eq_false, not_false_eq_true, and_self, and_true, true_and, false_and, and_false, or_true, true_or, or_false, false_or, ↓btS, ↓bnS, ↓bdS, ↓jnS, ↓obS, n_W hX hW, n_R hW, n_H hX hW, n_U hW, n_L hW, n_B hW, n_S hW, n_M hX, n_Ms hX, n_P, ↓ti_t, ↓ti_f, ↓tman_t hX hs, ↓tman_f hX hs, ↓troom_t hX hs, ↓troom_f hX hs, ↓tmir_t hX hs, ↓tmir_f hX hs, ↓tpas_t hn hW, ↓tpas_f hn hW, hmi, ↓pv_W Q, ↓pv_R Q, ↓pv_B Q, ↓tb52, p_W Q, p_R Q, ↓tz_R hs, ↓tz_M hs, ↓tz_K hs, c1], chg.rf _ _ _⟩
theorem t_oldest (Q : TQ s X K) {z : Int} (wz : wd z) : ∃ s' : TW, f_X8_oldest s z = some (q_oldest X K z, s') ∧ chg qk qf s s' := by
  obtain ⟨hX, hs, hn, hW⟩ := Q
  have Q : TQ s X K := ⟨hX, hs, hn, hW⟩
  have hmi := Q.mi
  have a0 := hX.1
  have a1 := hX.2.2.1
  have a4 := hX.2.2.2.1
  have a3 := hs.1
  have a2 := hW.1
  obtain ⟨s1, e1, J, l1, C⟩ := Q.copies
  have C := C.up (ks' := qk) (fs' := qf) (by decide) (by decide)
  have b3 := J.2.1.1
  have jmi := J.mi
  unfold f_X8_oldest q_oldest
  by_cases c1 : 0 ≤ z ∧ z ≤ 1
  · refine ⟨s1, ?_, C⟩
    simp (disch := omega) only [↓reduceIte, Bool.false_eq_true, nrm_i, ltT, ltF, leT, leF, eqT, eqF, not_true_eq_false, not_false_eq_true, and_self, and_true, true_and, false_and, and_false, or_true, true_or, or_false, false_or, ↓btS, ↓bnS, ↓bdS, ↓jnS, ↓obS, n_W hX hW, n_R hW, n_H hX hW, n_U hW, n_L hW, n_B hW, n_S hW, n_M hX, n_Ms hX, n_P, ↓ti_t, ↓ti_f, ↓tman_t hX hs, ↓tman_f hX hs, ↓troom_t hX hs, ↓troom_f hX hs, ↓tmir_t hX hs, ↓tmir_f hX hs, ↓tpas_t hn hW, ↓tpas_f hn hW, hmi, ↓pv_W Q, ↓pv_R Q, ↓pv_B Q, ↓tb52, p_W Q, p_R Q, ↓tz_R hs, ↓tz_M hs, ↓tz_K hs, ↓btP e1, c1]
    obtain ⟨e, p⟩ := loopI (fun n (a : Int × Int) i => f_X8_oldest_L24 n s1 z a.1 a.2 i (fun s12 x1 x2 x3 => (if ¬ nrm x1 = 0 then (some (nrm x3, s12)) else (some (nrm x2, s12))))) (fun a => if ¬ nrm z = 0 then some (nrm a.2, s1) else some (nrm a.1, s1)) (olG K) (fun i a => -2 ≤ a.1 ∧ a.1 < i + 1 ∧ -2 ≤ a.2 ∧ a.2 ≤ kMi K) (xK X).toNat 0 (fl := FU) (a0 := (-2, -2)) (by rw [FU_eq]; omega) ⟨by decide, by decide, by decide, by dsimp only; omega⟩ (fun n i a hi hp => by
        have hsw := shw_le hW (k := i) (t := kMi K) (by omega) (by omega) a2.1 (Int.le_refl _)
        try dsimp only
        rw [f_X8_oldest_L24, Int.zero_add]
        unfold olG
        by_cases c6 : shw K i (kMi K) < 0
        · exact ⟨by simp (disch := omega) only [↓reduceIte, Bool.false_eq_true, nrm_i, ltT, ltF, leT, leF, eqT, eqF, not_true_eq_false, not_false_eq_true, and_self, and_true, true_and, false_and, and_false, or_true, true_or, or_false, false_or, ↓btS, ↓bnS, ↓bdS, ↓jnS, ↓obS, n_W hX hW, n_R hW, n_H hX hW, n_U hW, n_L hW, n_B hW, n_S hW, n_M hX, n_Ms hX, n_P, J.mi, ↓ti_t, ↓ti_f, ↓tv_W J, ↓tv_L J, ↓tv_B J, ↓tb56, w_W J, w_R J, w_L J, ↓tb_menIn J, ↓tb_showsAt J, ↓tb_hungIn J, ↓tb_isTurned J, ↓tb_menShown J, ↓tb_menShown2 J, ↓tb_bits, ↓tz_R J.2.1, ↓tz_M J.2.1, ↓tz_K J.2.1, c6], by simp (disch := omega) only [↓reduceIte, Bool.false_eq_true, nrm_i, ltT, ltF, leT, leF, eqT, eqF, not_true_eq_false, not_false_eq_true, and_self, and_true, true_and, false_and, and_false, or_true, true_or, or_false, false_or, ↓btS, ↓bnS, ↓bdS, ↓jnS, ↓obS, c6] <;> omega⟩
        · by_cases c5 : a.1 < 0
          · exact ⟨by simp (disch := omega) only [↓reduceIte, Bool.false_eq_true, nrm_i, ltT, ltF, leT, leF, eqT, eqF, not_true_eq_false, not_false_eq_true, and_self, and_true, true_and, false_and, and_false, or_true, true_or, or_false, false_or, ↓btS, ↓bnS, ↓bdS, ↓jnS, ↓obS, n_W hX hW, n_R hW, n_H hX hW, n_U hW, n_L hW, n_B hW, n_S hW, n_M hX, n_Ms hX, n_P, J.mi, ↓ti_t, ↓ti_f, ↓tv_W J, ↓tv_L J, ↓tv_B J, ↓tb56, w_W J, w_R J, w_L J, ↓tb_menIn J, ↓tb_showsAt J, ↓tb_hungIn J, ↓tb_isTurned J, ↓tb_menShown J, ↓tb_menShown2 J, ↓tb_bits, ↓tz_R J.2.1, ↓tz_M J.2.1, ↓tz_K J.2.1, c6], by simp (disch := omega) only [↓reduceIte, Bool.false_eq_true, nrm_i, ltT, ltF, leT, leF, eqT, eqF, not_true_eq_false, not_false_eq_true, and_self, and_true, true_and, false_and, and_false, or_true, true_or, or_false, false_or, ↓btS, ↓bnS, ↓bdS, ↓jnS, ↓obS, c6] <;> omega⟩
          · by_cases c7 : a.2 ≤ shw K i (kMi K)
            · exact ⟨by simp (disch := omega) only [↓reduceIte, Bool.false_eq_true, nrm_i, ltT, ltF, leT, leF, eqT, eqF, not_true_eq_false, not_false_eq_true, and_self, and_true, true_and, false_and, and_false, or_true, true_or, or_false, false_or, ↓btS, ↓bnS, ↓bdS, ↓jnS, ↓obS, n_W hX hW, n_R hW, n_H hX hW, n_U hW, n_L hW, n_B hW, n_S hW, n_M hX, n_Ms hX, n_P, J.mi, ↓ti_t, ↓ti_f, ↓tv_W J, ↓tv_L J, ↓tv_B J, ↓tb56, w_W J, w_R J, w_L J, ↓tb_menIn J, ↓tb_showsAt J, ↓tb_hungIn J, ↓tb_isTurned J, ↓tb_menShown J, ↓tb_menShown2 J, ↓tb_bits, ↓tz_R J.2.1, ↓tz_M J.2.1, ↓tz_K J.2.1, c6], by simp (disch := omega) only [↓reduceIte, Bool.false_eq_true, nrm_i, ltT, ltF, leT, leF, eqT, eqF, not_true_eq_false, not_false_eq_true, and_self, and_true, true_and, false_and, and_false, or_true, true_or, or_false, false_or, ↓btS, ↓bnS, ↓bdS, ↓jnS, ↓obS, c6] <;> omega⟩
            · exact ⟨by simp (disch := omega) only [↓reduceIte, Bool.false_eq_true, nrm_i, ltT, ltF, leT, leF, eqT, eqF, not_true_eq_false, not_false_eq_true, and_self, and_true, true_and, false_and, and_false, or_true, true_or, or_false, false_or, ↓btS, ↓bnS, ↓bdS, ↓jnS, ↓obS, n_W hX hW, n_R hW, n_H hX hW, n_U hW, n_L hW, n_B hW, n_S hW, n_M hX, n_Ms hX, n_P, J.mi, ↓ti_t, ↓ti_f, ↓tv_W J, ↓tv_L J, ↓tv_B J, ↓tb56, w_W J, w_R J, w_L J, ↓tb_menIn J, ↓tb_showsAt J, ↓tb_hungIn J, ↓tb_isTurned J, ↓tb_menShown J, ↓tb_menShown2 J, ↓tb_bits, ↓tz_R J.2.1, ↓tz_M J.2.1, ↓tz_K J.2.1, c6], by simp (disch := omega) only [↓reduceIte, Bool.false_eq_true, nrm_i, ltT, ltF, leT, leF, eqT, eqF, not_true_eq_false, not_false_eq_true, and_self, and_true, true_and, false_and, and_false, or_true, true_or, or_false, false_or, ↓btS, ↓bnS, ↓bdS, ↓jnS, ↓obS, c6] <;> omega⟩)
      (fun n a hp => by
        try dsimp only
        rw [f_X8_oldest_L24]
        simp (disch := omega) only [↓reduceIte, Bool.false_eq_true, nrm_i, ltT, ltF, leT, leF, eqT, eqF, not_true_eq_false, not_false_eq_true, and_self, and_true, true_and, false_and, and_false, or_true, true_or, or_false, false_or, ↓btS, ↓bnS, ↓bdS, ↓jnS, ↓obS, n_W hX hW, n_R hW, n_H hX hW, n_U hW, n_L hW, n_B hW, n_S hW, n_M hX, n_Ms hX, n_P, J.mi, ↓ti_t, ↓ti_f, ↓tv_W J, ↓tv_L J, ↓tv_B J, ↓tb56, w_W J, w_R J, w_L J, ↓tb_menIn J, ↓tb_showsAt J, ↓tb_hungIn J, ↓tb_isTurned J, ↓tb_menShown J, ↓tb_menShown2 J, ↓tb_bits, ↓tz_R J.2.1, ↓tz_M J.2.1, ↓tz_K J.2.1])
    rw [e, nrm_i (z := z) (by omega) (by omega), nrm_i (by omega) (by omega), nrm_i (by omega) (by omega)]
    by_cases c5 : z = 0
    · simp (disch := omega) only [↓reduceIte, Bool.false_eq_true, nrm_i, ltT, ltF, leT, leF, eqT, eqF, not_true_eq_false, not_false_eq_true, and_self, and_true, true_and, false_and, and_false, or_true, true_or, or_false, false_or, ↓btS, ↓bnS, ↓bdS, ↓jnS, ↓obS, c5]
    · simp (disch := omega) only [↓reduceIte, Bool.false_eq_true, nrm_i, ltT, ltF, leT, leF, eqT, eqF, not_true_eq_false, not_false_eq_true, and_self, and_true, true_and, false_and, and_false, or_true, true_or, or_false, false_or, ↓btS, ↓bnS, ↓bdS, ↓jnS, ↓obS, c5]
  · exact ⟨s, by simp (disch := omega) only [↓reduceIte, Bool.false_eq_true, nrm_i, ltT, ltF, leT, leF, eqT, eqF, not_true_eq_false, not_false_eq_true, and_self, and_true, true_and, false_and, and_false, or_true, true_or, or_false, false_or, ↓btS, ↓bnS, ↓bdS, ↓jnS, ↓obS, n_W hX hW, n_R hW, n_H hX hW, n_U hW, n_L hW, n_B hW, n_S hW, n_M hX, n_Ms hX, n_P, ↓ti_t, ↓ti_f, ↓tman_t hX hs, ↓tman_f hX hs, ↓troom_t hX hs, ↓troom_f hX hs, ↓tmir_t hX hs, ↓tmir_f hX hs, ↓tpas_t hn hW, ↓tpas_f hn hW, hmi, ↓pv_W Q, ↓pv_R Q, ↓pv_B Q, ↓tb52, p_W Q, p_R Q, ↓tz_R hs, ↓tz_M hs, ↓tz_K hs, c1], chg.rf _ _ _⟩
theorem t_crowd (Q : TQ s X K) {x z : Int} (wx : wd x) (wz : wd z) : ∃ s' : TW, f_X8_crowd s x z = some (q_crowd X K x z, s') ∧ chg qk qf s s' := by
  obtain ⟨hX, hs, hn, hW⟩ := Q
  have Q : TQ s X K := ⟨hX, hs, hn, hW⟩
  have hmi := Q.mi
  have a0 := hX.1
  have a1 := hX.2.2.1
  have a4 := hX.2.2.2.1
  have a3 := hs.1
  have a2 := hW.1
  obtain ⟨s1, e1, J, l1, C⟩ := Q.copies
  have C := C.up (ks' := qk) (fs' := qf) (by decide) (by decide)
  have b3 := J.2.1.1
  have jmi := J.mi
  unfold f_X8_crowd q_crowd
  by_cases c1 : 0 ≤ x ∧ x ≤ kMi K <;> by_cases c2 : 0 ≤ z ∧ z ≤ 1
  · by_cases c : xR X = 0
    · exact ⟨s, by simp (disch := omega) only [↓reduceIte, Bool.false_eq_true, nrm_i, ltT, ltF, leT, leF, eqT, eqF, not_true_eq_false, not_false_eq_true, and_self, and_true, true_and, false_and, and_false, or_true, true_or, or_false, false_or, ↓btS, ↓bnS, ↓bdS, ↓jnS, ↓obS, n_W hX hW, n_R hW, n_H hX hW, n_U hW, n_L hW, n_B hW, n_S hW, n_M hX, n_Ms hX, n_P, ↓ti_t, ↓ti_f, ↓tman_t hX hs, ↓tman_f hX hs, ↓troom_t hX hs, ↓troom_f hX hs, ↓tmir_t hX hs, ↓tmir_f hX hs, ↓tpas_t hn hW, ↓tpas_f hn hW, hmi, ↓pv_W Q, ↓pv_R Q, ↓pv_B Q, ↓tb52, p_W Q, p_R Q, ↓tz_R hs, ↓tz_M hs, ↓tz_K hs, c1, c2], chg.rf _ _ _⟩
    · refine ⟨s1, ?_, C⟩
      simp (disch := omega) only [↓reduceIte, Bool.false_eq_true, nrm_i, ltT, ltF, leT, leF, eqT, eqF, not_true_eq_false, not_false_eq_true, and_self, and_true, true_and, false_and, and_false, or_true, true_or, or_false, false_or, ↓btS, ↓bnS, ↓bdS, ↓jnS, ↓obS, n_W hX hW, n_R hW, n_H hX hW, n_U hW, n_L hW, n_B hW, n_S hW, n_M hX, n_Ms hX, n_P, ↓ti_t, ↓ti_f, ↓tman_t hX hs, ↓tman_f hX hs, ↓troom_t hX hs, ↓troom_f hX hs, ↓tmir_t hX hs, ↓tmir_f hX hs, ↓tpas_t hn hW, ↓tpas_f hn hW, hmi, ↓pv_W Q, ↓pv_R Q, ↓pv_B Q, ↓tb52, p_W Q, p_R Q, ↓tz_R hs, ↓tz_M hs, ↓tz_K hs, ↓btP e1, c1, c2]
      have hp : ∀ i : Nat, 0 ≤ crF X K x i ∧ crF X K x i ≤ 8 := fun i => pcn_in _
      refine loop (S := Int × Int) (fun n q => f_X8_crowd_L43 n s1 x z q.1 q.2 (fun s18 x1 x2 x3 => (if ¬ nrm x2 = 0 then (bt_ (f_X8_menIn s18 x3 x1) fun v20 s19 => bt_ (f_X8_bits s19 v20) fun v22 s21 => some (v22, s21)) else (some (nrm x3, s18))))) (· = some (if z = 0 then (amx (crF X K x) ((xR X).toNat - 1) : Int) else crF X K x (amx (crF X K x) ((xR X).toNat - 1)), s1)) (fun i q => q = ((amx (crF X K x) i : Int), (i : Int) + 1)) ((xR X).toNat - 1) ?_ ?_ ((xR X).toNat - 1) 0 FU (0, 1) (by omega) (by rw [FU_eq]; omega) rfl
      · rintro n i q hi rfl
        right
        refine ⟨((amx (crF X K x) (i + 1) : Int), ((i + 1 : Nat) : Int) + 1), ?_, rfl⟩
        dsimp only
        have hm := mIn_lt X hX K ((i : Int) + 1) x
        have hm2 := mIn_lt X hX K (amx (crF X K x) i : Nat) x
        have hle := amx_le (crF X K x) i
        have h1 := hp (amx (crF X K x) i)
        have h2 := hp (i + 1)
        have h3 : pcn (mIn X K ((i : Int) + 1) x) = crF X K x (i + 1) := rfl
        have h4 : pcn (mIn X K ((amx (crF X K x) i : Nat) : Int) x) = crF X K x (amx (crF X K x) i) := rfl
        rw [f_X8_crowd_L43, amx]
        by_cases c : crF X K x (amx (crF X K x) i) < crF X K x (i + 1)
        · rw [if_pos c]; simp (disch := omega) only [↓reduceIte, Bool.false_eq_true, nrm_i, ltT, ltF, leT, leF, eqT, eqF, not_true_eq_false, not_false_eq_true, and_self, and_true, true_and, false_and, and_false, or_true, true_or, or_false, false_or, ↓btS, ↓bnS, ↓bdS, ↓jnS, ↓obS, n_W hX hW, n_R hW, n_H hX hW, n_U hW, n_L hW, n_B hW, n_S hW, n_M hX, n_Ms hX, n_P, J.mi, ↓ti_t, ↓ti_f, ↓tv_W J, ↓tv_L J, ↓tv_B J, ↓tb56, w_W J, w_R J, w_L J, ↓tb_menIn J, ↓tb_showsAt J, ↓tb_hungIn J, ↓tb_isTurned J, ↓tb_menShown J, ↓tb_menShown2 J, ↓tb_bits, ↓tz_R J.2.1, ↓tz_M J.2.1, ↓tz_K J.2.1, h3, h4]; rfl
        · rw [if_neg c]; simp (disch := omega) only [↓reduceIte, Bool.false_eq_true, nrm_i, ltT, ltF, leT, leF, eqT, eqF, not_true_eq_false, not_false_eq_true, and_self, and_true, true_and, false_and, and_false, or_true, true_or, or_false, false_or, ↓btS, ↓bnS, ↓bdS, ↓jnS, ↓obS, n_W hX hW, n_R hW, n_H hX hW, n_U hW, n_L hW, n_B hW, n_S hW, n_M hX, n_Ms hX, n_P, J.mi, ↓ti_t, ↓ti_f, ↓tv_W J, ↓tv_L J, ↓tv_B J, ↓tb56, w_W J, w_R J, w_L J, ↓tb_menIn J, ↓tb_showsAt J, ↓tb_hungIn J, ↓tb_isTurned J, ↓tb_menShown J, ↓tb_menShown2 J, ↓tb_bits, ↓tz_R J.2.1, ↓tz_M J.2.1, ↓tz_K J.2.1, h3, h4]; rfl
      · rintro n q rfl
        dsimp only
        have hm2 := mIn_lt X hX K (amx (crF X K x) ((xR X).toNat - 1) : Nat) x
        have hle := amx_le (crF X K x) ((xR X).toNat - 1)
        have h4 : pcn (mIn X K ((amx (crF X K x) ((xR X).toNat - 1) : Nat) : Int) x) = crF X K x (amx (crF X K x) ((xR X).toNat - 1)) := rfl
        rw [f_X8_crowd_L43]
        by_cases c5 : z = 0 <;> simp (disch := omega) only [↓reduceIte, Bool.false_eq_true, nrm_i, ltT, ltF, leT, leF, eqT, eqF, not_true_eq_false, not_false_eq_true, and_self, and_true, true_and, false_and, and_false, or_true, true_or, or_false, false_or, ↓btS, ↓bnS, ↓bdS, ↓jnS, ↓obS, n_W hX hW, n_R hW, n_H hX hW, n_U hW, n_L hW, n_B hW, n_S hW, n_M hX, n_Ms hX, n_P, J.mi, ↓ti_t, ↓ti_f, ↓tv_W J, ↓tv_L J, ↓tv_B J, ↓tb56, w_W J, w_R J, w_L J, ↓tb_menIn J, ↓tb_showsAt J, ↓tb_hungIn J, ↓tb_isTurned J, ↓tb_menShown J, ↓tb_menShown2 J, ↓tb_bits, ↓tz_R J.2.1, ↓tz_M J.2.1, ↓tz_K J.2.1, h4]
  all_goals exact ⟨s, by simp (disch := omega) only [↓reduceIte, Bool.false_eq_true, nrm_i, ltT, ltF, leT, leF, eqT, eqF, not_true_eq_false, not_false_eq_true, and_self, and_true, true_and, false_and, and_false, or_true, true_or, or_false, false_or, ↓btS, ↓bnS, ↓bdS, ↓jnS, ↓obS, n_W hX hW, n_R hW, n_H hX hW, n_U hW, n_L hW, n_B hW, n_S hW, n_M hX, n_Ms hX, n_P, ↓ti_t, ↓ti_f, ↓tman_t hX hs, ↓tman_f hX hs, ↓troom_t hX hs, ↓troom_f hX hs, ↓tmir_t hX hs, ↓tmir_f hX hs, ↓tpas_t hn hW, ↓tpas_f hn hW, hmi, ↓pv_W Q, ↓pv_R Q, ↓pv_B Q, ↓tb52, p_W Q, p_R Q, ↓tz_R hs, ↓tz_M hs, ↓tz_K hs, c1, c2], chg.rf _ _ _⟩
theorem tb_seenFrom (J : TI s X K) {x : Int} (wx : wd x) (f : Int → TW → Option β) : bt_ (f_X8_seenFrom s x) f = f (mFr X K x (kMi K) : Int) s := by
  have hX := J.1
  have hW := J.2.2.2
  have a0 := hX.1
  have a1 := hX.2.2.1
  have a4 := hX.2.2.2.1
  have a2 := hW.1
  have b3 := J.2.1.1
  have jmi := J.mi
  refine btP ?_ f
  unfold f_X8_seenFrom mFr
  obtain ⟨e, p⟩ := loopI (fun n (a : Nat) i => f_X8_seenFrom_L4 n s x (a : Int) i (fun s10 x2 => some (nrm x2, s10))) (fun a => some (nrm (a : Int), s)) (mfG X K x (kMi K)) (fun i a => a < 64) (xK X).toNat 0 (fl := FU) (a0 := 0) (by rw [FU_eq]; omega) (by decide) (fun n i a hi hp => by
        refine ⟨?_, mfG_lt hX x (kMi K) i hp⟩
        have hm := mSh_lt (K := K) hX (i : Int) (kMi K)
        rw [f_X8_seenFrom_L4, Int.zero_add]
        unfold mfG
        by_cases c5 : kH K i (kMi K) = x
        · simp (disch := omega) only [↓reduceIte, Bool.false_eq_true, nrm_i, ltT, ltF, leT, leF, eqT, eqF, not_true_eq_false, not_false_eq_true, and_self, and_true, true_and, false_and, and_false, or_true, true_or, or_false, false_or, ↓btS, ↓bnS, ↓bdS, ↓jnS, ↓obS, n_W hX hW, n_R hW, n_H hX hW, n_U hW, n_L hW, n_B hW, n_S hW, n_M hX, n_Ms hX, n_P, J.mi, ↓ti_t, ↓ti_f, ↓tv_W J, ↓tv_L J, ↓tv_B J, ↓tb56, w_W J, w_R J, w_L J, ↓tb_menIn J, ↓tb_showsAt J, ↓tb_hungIn J, ↓tb_isTurned J, ↓tb_menShown J, ↓tb_menShown2 J, ↓tb_bits, ↓tz_R J.2.1, ↓tz_M J.2.1, ↓tz_K J.2.1, c5, orI_nat]
        · simp (disch := omega) only [↓reduceIte, Bool.false_eq_true, nrm_i, ltT, ltF, leT, leF, eqT, eqF, not_true_eq_false, not_false_eq_true, and_self, and_true, true_and, false_and, and_false, or_true, true_or, or_false, false_or, ↓btS, ↓bnS, ↓bdS, ↓jnS, ↓obS, n_W hX hW, n_R hW, n_H hX hW, n_U hW, n_L hW, n_B hW, n_S hW, n_M hX, n_Ms hX, n_P, J.mi, ↓ti_t, ↓ti_f, ↓tv_W J, ↓tv_L J, ↓tv_B J, ↓tb56, w_W J, w_R J, w_L J, ↓tb_menIn J, ↓tb_showsAt J, ↓tb_hungIn J, ↓tb_isTurned J, ↓tb_menShown J, ↓tb_menShown2 J, ↓tb_bits, ↓tz_R J.2.1, ↓tz_M J.2.1, ↓tz_K J.2.1, c5])
      (fun n a hp => by
        rw [f_X8_seenFrom_L4]
        simp (disch := omega) only [↓reduceIte, Bool.false_eq_true, nrm_i, ltT, ltF, leT, leF, eqT, eqF, not_true_eq_false, not_false_eq_true, and_self, and_true, true_and, false_and, and_false, or_true, true_or, or_false, false_or, ↓btS, ↓bnS, ↓bdS, ↓jnS, ↓obS, n_W hX hW, n_R hW, n_H hX hW, n_U hW, n_L hW, n_B hW, n_S hW, n_M hX, n_Ms hX, n_P, J.mi, ↓ti_t, ↓ti_f, ↓tv_W J, ↓tv_L J, ↓tv_B J, ↓tb56, w_W J, w_R J, w_L J, ↓tb_menIn J, ↓tb_showsAt J, ↓tb_hungIn J, ↓tb_isTurned J, ↓tb_menShown J, ↓tb_menShown2 J, ↓tb_bits, ↓tz_R J.2.1, ↓tz_M J.2.1, ↓tz_K J.2.1])
  exact e.trans (by rw [nrm_i (by omega) (by omega)])
theorem t_stand (Q : TQ s X K) {z : Int} (wz : wd z) : ∃ s' : TW, f_X8_stand s z = some (q_stand X K z, s') ∧ chg qk qf s s' := by
  obtain ⟨hX, hs, hn, hW⟩ := Q
  have Q : TQ s X K := ⟨hX, hs, hn, hW⟩
  have hmi := Q.mi
  have a0 := hX.1
  have a1 := hX.2.2.1
  have a4 := hX.2.2.2.1
  have a3 := hs.1
  have a2 := hW.1
  obtain ⟨s1, e1, J, l1, C⟩ := Q.copies
  have C := C.up (ks' := qk) (fs' := qf) (by decide) (by decide)
  have b3 := J.2.1.1
  have jmi := J.mi
  unfold f_X8_stand q_stand
  by_cases c2 : 0 ≤ z ∧ z ≤ 1
  · by_cases c : xR X = 0
    · exact ⟨s, by simp (disch := omega) only [↓reduceIte, Bool.false_eq_true, nrm_i, ltT, ltF, leT, leF, eqT, eqF, not_true_eq_false, not_false_eq_true, and_self, and_true, true_and, false_and, and_false, or_true, true_or, or_false, false_or, ↓btS, ↓bnS, ↓bdS, ↓jnS, ↓obS, n_W hX hW, n_R hW, n_H hX hW, n_U hW, n_L hW, n_B hW, n_S hW, n_M hX, n_Ms hX, n_P, ↓ti_t, ↓ti_f, ↓tman_t hX hs, ↓tman_f hX hs, ↓troom_t hX hs, ↓troom_f hX hs, ↓tmir_t hX hs, ↓tmir_f hX hs, ↓tpas_t hn hW, ↓tpas_f hn hW, hmi, ↓pv_W Q, ↓pv_R Q, ↓pv_B Q, ↓tb52, p_W Q, p_R Q, ↓tz_R hs, ↓tz_M hs, ↓tz_K hs, c2], chg.rf _ _ _⟩
    · refine ⟨s1, ?_, C⟩
      simp (disch := omega) only [↓reduceIte, Bool.false_eq_true, nrm_i, ltT, ltF, leT, leF, eqT, eqF, not_true_eq_false, not_false_eq_true, and_self, and_true, true_and, false_and, and_false, or_true, true_or, or_false, false_or, ↓btS, ↓bnS, ↓bdS, ↓jnS, ↓obS, n_W hX hW, n_R hW, n_H hX hW, n_U hW, n_L hW, n_B hW, n_S hW, n_M hX, n_Ms hX, n_P, ↓ti_t, ↓ti_f, ↓tman_t hX hs, ↓tman_f hX hs, ↓troom_t hX hs, ↓troom_f hX hs, ↓tmir_t hX hs, ↓tmir_f hX hs, ↓tpas_t hn hW, ↓tpas_f hn hW, hmi, ↓pv_W Q, ↓pv_R Q, ↓pv_B Q, ↓tb52, p_W Q, p_R Q, ↓tz_R hs, ↓tz_M hs, ↓tz_K hs, ↓btP e1, c2]
      have hp : ∀ i : Nat, 0 ≤ sdF X K i ∧ sdF X K i ≤ 8 := fun i => pcn_in _
      refine loop (S := Int × Int) (fun n q => f_X8_stand_L34 n s1 z q.1 q.2 (fun s16 x1 x2 => (if ¬ nrm x1 = 0 then (bt_ (f_X8_seenFrom s16 x2) fun v18 s17 => bt_ (f_X8_bits s17 v18) fun v20 s19 => some (v20, s19)) else (some (nrm x2, s16))))) (· = some (if z = 0 then (amx (sdF X K) ((xR X).toNat - 1) : Int) else sdF X K (amx (sdF X K) ((xR X).toNat - 1)), s1)) (fun i q => q = ((amx (sdF X K) i : Int), (i : Int) + 1)) ((xR X).toNat - 1) ?_ ?_ ((xR X).toNat - 1) 0 FU (0, 1) (by omega) (by rw [FU_eq]; omega) rfl
      · rintro n i q hi rfl
        right
        refine ⟨((amx (sdF X K) (i + 1) : Int), ((i + 1 : Nat) : Int) + 1), ?_, rfl⟩
        dsimp only
        have hm := mFr_lt hX K ((i : Int) + 1) (kMi K)
        have hm2 := mFr_lt hX K (amx (sdF X K) i : Nat) (kMi K)
        have hle := amx_le (sdF X K) i
        have h1 := hp (amx (sdF X K) i)
        have h2 := hp (i + 1)
        have h3 : pcn (mFr X K ((i : Int) + 1) (kMi K)) = sdF X K (i + 1) := rfl
        have h4 : pcn (mFr X K ((amx (sdF X K) i : Nat) : Int) (kMi K)) = sdF X K (amx (sdF X K) i) := rfl
        rw [f_X8_stand_L34, amx]
        by_cases c : sdF X K (amx (sdF X K) i) < sdF X K (i + 1)
        · rw [if_pos c]; simp (disch := omega) only [↓reduceIte, Bool.false_eq_true, nrm_i, ltT, ltF, leT, leF, eqT, eqF, not_true_eq_false, not_false_eq_true, and_self, and_true, true_and, false_and, and_false, or_true, true_or, or_false, false_or, ↓btS, ↓bnS, ↓bdS, ↓jnS, ↓obS, n_W hX hW, n_R hW, n_H hX hW, n_U hW, n_L hW, n_B hW, n_S hW, n_M hX, n_Ms hX, n_P, J.mi, ↓ti_t, ↓ti_f, ↓tv_W J, ↓tv_L J, ↓tv_B J, ↓tb56, w_W J, w_R J, w_L J, ↓tb_menIn J, ↓tb_showsAt J, ↓tb_hungIn J, ↓tb_isTurned J, ↓tb_menShown J, ↓tb_menShown2 J, ↓tb_bits, ↓tz_R J.2.1, ↓tz_M J.2.1, ↓tz_K J.2.1, ↓tb_seenFrom J, h3, h4]; rfl
        · rw [if_neg c]; simp (disch := omega) only [↓reduceIte, Bool.false_eq_true, nrm_i, ltT, ltF, leT, leF, eqT, eqF, not_true_eq_false, not_false_eq_true, and_self, and_true, true_and, false_and, and_false, or_true, true_or, or_false, false_or, ↓btS, ↓bnS, ↓bdS, ↓jnS, ↓obS, n_W hX hW, n_R hW, n_H hX hW, n_U hW, n_L hW, n_B hW, n_S hW, n_M hX, n_Ms hX, n_P, J.mi, ↓ti_t, ↓ti_f, ↓tv_W J, ↓tv_L J, ↓tv_B J, ↓tb56, w_W J, w_R J, w_L J, ↓tb_menIn J, ↓tb_showsAt J, ↓tb_hungIn J, ↓tb_isTurned J, ↓tb_menShown J, ↓tb_menShown2 J, ↓tb_bits, ↓tz_R J.2.1, ↓tz_M J.2.1, ↓tz_K J.2.1, ↓tb_seenFrom J, h3, h4]; rfl
      · rintro n q rfl
        dsimp only
        have hm2 := mFr_lt hX K (amx (sdF X K) ((xR X).toNat - 1) : Nat) (kMi K)
        have hle := amx_le (sdF X K) ((xR X).toNat - 1)
        have h4 : pcn (mFr X K ((amx (sdF X K) ((xR X).toNat - 1) : Nat) : Int) (kMi K)) = sdF X K (amx (sdF X K) ((xR X).toNat - 1)) := rfl
        rw [f_X8_stand_L34]
        by_cases c5 : z = 0 <;> simp (disch := omega) only [↓reduceIte, Bool.false_eq_true, nrm_i, ltT, ltF, leT, leF, eqT, eqF, not_true_eq_false, not_false_eq_true, and_self, and_true, true_and, false_and, and_false, or_true, true_or, or_false, false_or, ↓btS, ↓bnS, ↓bdS, ↓jnS, ↓obS, n_W hX hW, n_R hW, n_H hX hW, n_U hW, n_L hW, n_B hW, n_S hW, n_M hX, n_Ms hX, n_P, J.mi, ↓ti_t, ↓ti_f, ↓tv_W J, ↓tv_L J, ↓tv_B J, ↓tb56, w_W J, w_R J, w_L J, ↓tb_menIn J, ↓tb_showsAt J, ↓tb_hungIn J, ↓tb_isTurned J, ↓tb_menShown J, ↓tb_menShown2 J, ↓tb_bits, ↓tz_R J.2.1, ↓tz_M J.2.1, ↓tz_K J.2.1, ↓tb_seenFrom J, h4]
  · exact ⟨s, by simp (disch := omega) only [↓reduceIte, Bool.false_eq_true, nrm_i, ltT, ltF, leT, leF, eqT, eqF, not_true_eq_false, not_false_eq_true, and_self, and_true, true_and, false_and, and_false, or_true, true_or, or_false, false_or, ↓btS, ↓bnS, ↓bdS, ↓jnS, ↓obS, n_W hX hW, n_R hW, n_H hX hW, n_U hW, n_L hW, n_B hW, n_S hW, n_M hX, n_Ms hX, n_P, ↓ti_t, ↓ti_f, ↓tman_t hX hs, ↓tman_f hX hs, ↓troom_t hX hs, ↓troom_f hX hs, ↓tmir_t hX hs, ↓tmir_f hX hs, ↓tpas_t hn hW, ↓tpas_f hn hW, hmi, ↓pv_W Q, ↓pv_R Q, ↓pv_B Q, ↓tb52, p_W Q, p_R Q, ↓tz_R hs, ↓tz_M hs, ↓tz_K hs, c2], chg.rf _ _ _⟩
end
