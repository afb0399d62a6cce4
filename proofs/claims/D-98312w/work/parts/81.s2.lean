set_option maxRecDepth 100000
set_option maxHeartbeats 4000000
/-- sums -/
def sm (f : Nat → Int) (n : Nat) : Int := itr (fun i a => a + f i) n 0
theorem sm_s (f : Nat → Int) (n : Nat) : sm f (n + 1) = sm f n + f n := rfl
theorem itr_sm (f : Nat → Int) (a : Int) : ∀ n : Nat, itr (fun i a => a + f i) n a = a + sm f n := by
  intro n
  induction n with
  | zero => show a = a + 0; omega
  | succ n ih => show itr (fun i a => a + f i) n a + f n = a + (sm f n + f n); rw [ih]; omega
theorem sm_add (f g : Nat → Int) : ∀ n : Nat, sm (fun i => f i + g i) n = sm f n + sm g n := by
  intro n
  induction n with
  | zero => rfl
  | succ n ih => rw [sm_s, sm_s, sm_s, ih]; omega
theorem sm_0 : ∀ n : Nat, sm (fun _ => 0) n = 0 := by
  intro n
  induction n with
  | zero => rfl
  | succ n ih => rw [sm_s, ih]; rfl
theorem sm_swap (f : Nat → Nat → Int) (m : Nat) : ∀ n : Nat, sm (fun k => sm (fun i => f k i) m) n = sm (fun i => sm (fun k => f k i) n) m := by
  intro n
  induction n with
  | zero => exact (sm_0 m).symm
  | succ n ih =>
    rw [sm_s, ih, ← sm_add]
    rfl
theorem sm_in (f : Nat → Int) (h : ∀ i, 0 ≤ f i ∧ f i ≤ 1) : ∀ n : Nat, 0 ≤ sm f n ∧ sm f n ≤ n := by
  intro n
  induction n with
  | zero => exact ⟨Int.le_refl _, Int.le_refl _⟩
  | succ n ih => rw [sm_s]; have := h n; omega
theorem sm_any (P : Nat → Bool) : ∀ n : Nat, (0 < sm (fun i => if P i = true then 1 else 0) n ↔ anyN P n = true) := by
  intro n
  induction n with
  | zero => exact ⟨fun h => absurd h (Int.lt_irrefl 0), fun h => (by cases h)⟩
  | succ n ih =>
    have h0 := (sm_in (fun i => if P i = true then 1 else 0) (fun i => by split <;> decide) n).1
    have e : anyN P (n + 1) = (anyN P n || P n) := rfl
    rw [sm_s, e]
    cases hp : P n with
    | true => simp; omega
    | false => simp; exact ih
theorem sm_congr {f g : Nat → Int} : ∀ {n : Nat}, (∀ i, i < n → f i = g i) → sm f n = sm g n := by
  intro n
  induction n with
  | zero => intro _; rfl
  | succ n ih => intro h; rw [sm_s, sm_s, ih (fun i hi => h i (by omega)), h n (by omega)]
def tEn (K : Crt) : Nat := (300 - kMi K).toNat
def wsP (X : Txt) (K : Crt) (x y : Int) (k : Nat) (i : Nat) : Bool := decide (shw (kEnd X K) k (kMi K + i) = y) && decide (kH (kEnd X K) k y = x)
def q_still (X : Txt) (K : Crt) (x y : Int) : Int := if (0 ≤ x ∧ x < xR X) ∧ (0 ≤ y ∧ y ≤ kMi K) then (ms (fun k => anyN (wsP X K x y k) (tEn K)) (xK X).toNat : Nat) else -1
def sgG (X : Txt) (K : Crt) (x y : Int) (k : Nat) (a : Int × Int) : Int × Int := match fnd (wsP X K x y k) 0 (tEn K) with
  | some i => if kMi K + i < a.2 then ((k : Int), kMi K + i) else a
  | none => a
def q_soonest (X : Txt) (K : Crt) (x y z : Int) : Int := if (0 ≤ x ∧ x < xR X) ∧ (0 ≤ y ∧ y ≤ kMi K) ∧ (0 ≤ z ∧ z ≤ 1) then (if (itr (sgG X K x y) (xK X).toNat (-2, 300)).1 < 0 then (itr (sgG X K x y) (xK X).toNat (-2, 300)).1 else if z = 1 then (itr (sgG X K x y) (xK X).toNat (-2, 300)).1 else (itr (sgG X K x y) (xK X).toNat (-2, 300)).2) else -1
def sbB (X : Txt) (K : Crt) (m : Int) (k i : Nat) : Bool := (mSh X (kEnd X K) k (kMi K + i)).testBit m.toNat
def sb (X : Txt) (K : Crt) (m : Int) (k i : Nat) : Int := if sbB X K m k i = true then 1 else 0
theorem sb_in (X : Txt) (K : Crt) (m : Int) (k i : Nat) : 0 ≤ sb X K m k i ∧ sb X K m k i ≤ 1 := by unfold sb; split <;> decide
def q_seen (X : Txt) (K : Crt) (x n : Int) : Int := if (0 ≤ x ∧ x < xM X) ∧ (0 ≤ n ∧ n ≤ 299) then sm (fun k => sm (sb X K x k) (rnN K n + 1)) (xK X).toNat else -1
def tnS (X : Txt) (K : Crt) (x : Int) : Nat := ms (fun k => anyN (sbB X K x k) (tEn K)) (xK X).toNat
def q_turned (X : Txt) (K : Crt) (x z : Int) : Int := if (0 ≤ x ∧ x < xM X) ∧ (0 ≤ z ∧ z ≤ 1) then (if z = 0 then pcn (tnS X K x) else (tnS X K x : Nat)) else -1
def q_willBe (X : Txt) (K : Crt) (x n : Int) : Int := if (0 ≤ x ∧ x < xM X) ∧ (0 ≤ n ∧ n ≤ 299) then kW (rn X (rnN K n) K) x (kMi K + rnN K n) else -1
def setSd (K : Crt) (v : Int) : Crt := ((kMi K, v), K.2)
def odF (X : Txt) (K : Crt) (x n : Int) (k : Nat) : Int := if kB (rn X (rnN K n) (setSd K (xS X + k))) x = 300 then 0 else 1
def q_odds (X : Txt) (K : Crt) (x n z : Int) : Int := if (0 ≤ x ∧ x < xK X) ∧ (0 ≤ n ∧ n ≤ 299) ∧ (1 ≤ z ∧ z ≤ 10) then sm (odF X K x n) z.toNat else -1
theorem ms_lt8 {X : Txt} (hX : WfX X) (P : Nat → Bool) {n : Nat} (hn : n ≤ (xK X).toNat) : ms P n < 256 := by
  have a4 := hX.2.2.2.1
  exact Nat.lt_of_lt_of_le (ms_lt P n) ((Nat.pow_le_pow_right (by decide) (by omega) : 2 ^ n ≤ 2 ^ 8))
section
variable {Z : Nat → Prop} {σ σ' τ : Hp} {o r a : Nat} {X : Txt} {K E : Crt} {β : Type}
/-- in a trial -/
def TR (Z : Nat → Prop) (τ : Hp) (o r : Nat) (X : Txt) (K E : Crt) : Prop := QI Z τ o r X K ∧ CI Z τ (o + 61) r X E
theorem TR.wr16 (I : TR Z τ o r X K E) (v : Int) : TR Z (wr τ o 16 v) o r X K E ∧ chgQ o τ (wr τ o 16 v) := by
  obtain ⟨I, J⟩ := I
  have c : chgH (fun x => x = o) τ (wr τ o 16 v) := (chgH.rf (fun x => x = o) τ).wr rfl 16 v
  have q : chgQ o τ (wr τ o 16 v) := ⟨c.up fun x hx => Or.inl hx, fun i hi => by
    obtain ⟨⟨g, h1, -⟩, -⟩ := I.1
    rw [wr_ci (h := h1), fuN _ _ hi]⟩
  have I2 := I.chg q
  refine ⟨⟨I2, I2.1.trial, I2.2.1, J.2.2.1.same c (fun k hk h => by omega) J.2.2.2.1, J.2.2.2.1, J.2.2.2.2⟩, q⟩
theorem h_willShow (T : TR Z τ o r X K (kEnd X K)) {x y : Int} {k : Nat} (k1 : (k : Int) < xK X) (wx : wd x) (y0 : 0 ≤ y) (y1 : y ≤ kMi K) : f_X0_willShow τ o k x y = match fnd (wsP X K x y k) 0 (tEn K) with | some i => some (1, wr τ o 16 (kMi K + i)) | none => some (0, τ) := by
  obtain ⟨I, J⟩ := T
  have J0 := I.ci
  have hO := I.1
  have hc := hO.trial
  have hX := I.2.2.2.2.1
  have hW0 := I.2.2.2.2.2
  have a4 := hX.2.2.2.1
  obtain ⟨hW, hE⟩ := kEnd_ok hX hW0
  have a2 := hW0.1
  unfold f_X0_willShow
  rw [o_g7 hO, cb_mi J0]
  refine (loopF (fun n i => f_X0_willShow_L9 o n τ k x y i (fun s15 => some (0, s15))) (some (0, τ)) (fun i => some (1, wr τ o 16 (kMi K + i))) (wsP X K x y k) (tEn K) (kMi K) (fl := FU) (by rw [FU_eq]; unfold tEn; omega) (fun n i hi => by
      unfold tEn at hi
      rw [f_X0_willShow_L9]
      unfold wsP
      by_cases d1 : shw (kEnd X K) k (kMi K + i) = y
      · by_cases d2 : kH (kEnd X K) k y = x
        · simp (disch := omega) only [↓reduceIte, Bool.false_eq_true, nrm_i, ltT, ltF, leT, leF, eqT, eqF, not_true_eq_false, not_false_eq_true, and_self, and_true, true_and, false_and, and_false, or_true, true_or, or_false, false_or, ↓btS, ↓bnS, ↓bdS, ↓jnS, ↓obS, n_W hX hW, n_R hW, n_H hX hW, n_U hW, n_L hW, n_B hW, n_S hW, n_M hX, n_Ms hX, n_P, ↓o_g8 hO, ↓c_ob hc, ↓hb_shows J, d1, ↓c_g2b hc, ↓c_r2b hc, ↓cb_H J, d2, ↓o_pI hO, decide_true, Bool.and_self]
        · simp (disch := omega) only [↓reduceIte, Bool.false_eq_true, nrm_i, ltT, ltF, leT, leF, eqT, eqF, not_true_eq_false, not_false_eq_true, and_self, and_true, true_and, false_and, and_false, or_true, true_or, or_false, false_or, ↓btS, ↓bnS, ↓bdS, ↓jnS, ↓obS, n_W hX hW, n_R hW, n_H hX hW, n_U hW, n_L hW, n_B hW, n_S hW, n_M hX, n_Ms hX, n_P, ↓o_g8 hO, ↓c_ob hc, ↓hb_shows J, d1, ↓c_g2b hc, ↓c_r2b hc, ↓cb_H J, d2, decide_true, decide_false, Bool.and_false]
      · simp (disch := omega) only [↓reduceIte, Bool.false_eq_true, nrm_i, ltT, ltF, leT, leF, eqT, eqF, not_true_eq_false, not_false_eq_true, and_self, and_true, true_and, false_and, and_false, or_true, true_or, or_false, false_or, ↓btS, ↓bnS, ↓bdS, ↓jnS, ↓obS, n_W hX hW, n_R hW, n_H hX hW, n_U hW, n_L hW, n_B hW, n_S hW, n_M hX, n_Ms hX, n_P, ↓o_g8 hO, ↓c_ob hc, ↓hb_shows J, d1, decide_false, Bool.false_and])
    (fun n => by
      have e : kMi K + (tEn K : Int) = 300 := by unfold tEn; omega
      rw [f_X0_willShow_L9, e]
      simp (disch := omega) only [↓reduceIte, Bool.false_eq_true, nrm_i, ltT, ltF, leT, leF, eqT, eqF, not_true_eq_false, not_false_eq_true, and_self, and_true, true_and, false_and, and_false, or_true, true_or, or_false, false_or, ↓btS, ↓bnS, ↓bdS, ↓jnS, ↓obS])).trans ?_
  rfl
theorem h_still (I : QI Z σ o r X K) {x y : Int} (wx : wd x) (wy : wd y) : ∃ σ' : Hp, f_X0_still σ o x y = some (q_still X K x y, σ') ∧ chgQ o σ σ' := by
  obtain ⟨hO, hx, hZ, hK, hX, hW⟩ := I
  have I : QI Z σ o r X K := ⟨hO, hx, hZ, hK, hX, hW⟩
  have J := I.ci
  have hc := hO.court
  have a0 := hX.1
  have a1 := hX.2.2.1
  have a4 := hX.2.2.2.1
  have a2 := hW.1
  unfold f_X0_still q_still
  by_cases G : (0 ≤ x ∧ x < xR X) ∧ (0 ≤ y ∧ y ≤ kMi K)
  · rw [if_pos G]
    obtain ⟨c1, c2⟩ := G
    obtain ⟨σ1, e1, J1, q1⟩ := h_goesToEnd I
    have lp : ∃ σ' : Hp, f_X0_still_L27 o FU σ1 x y 0 0 (fun s17 x3 => some (nrm x3, s17)) = some (((ms (fun k => anyN (wsP X K x y k) (tEn K)) (xK X).toNat : Nat) : Int), σ') ∧ chgQ o σ σ' := by
      refine loop (S := Hp × Int × Int) (fun n q => f_X0_still_L27 o n q.1 x y q.2.1 q.2.2 (fun s17 x3 => some (nrm x3, s17))) (fun w => ∃ σ' : Hp, w = some (((ms (fun k => anyN (wsP X K x y k) (tEn K)) (xK X).toNat : Nat) : Int), σ') ∧ chgQ o σ σ')
        (fun i q => (chgQ o σ q.1 ∧ TR Z q.1 o r X K (kEnd X K)) ∧ q.2 = ((ms (fun k => anyN (wsP X K x y k) (tEn K)) i : Int), (i : Int))) (xK X).toNat ?_ ?_ (xK X).toNat 0 FU (σ1, 0, 0) (by omega) (by rw [FU_eq]; omega) ⟨⟨q1, I.chg q1, J1⟩, rfl⟩
      · rintro n i ⟨τ, q⟩ hi ⟨⟨hq, T⟩, rfl⟩
        dsimp only at hq T ⊢
        have ew := h_willShow T (k := i) (x := x) (y := y) (by omega) wx c2.1 c2.2
        have hm := ms_lt8 hX (fun k => anyN (wsP X K x y k) (tEn K)) (n := i) (by omega)
        have hp := pw_le (m := (i : Int)) (by omega)
        have hpw : 2 ^ i < 2147483648 := Nat.lt_of_le_of_lt ((Nat.pow_le_pow_right (by decide) (by omega) : 2 ^ i ≤ 2 ^ 8)) (by decide)
        have e2 : (2 : Nat) ^ ((i : Nat) : Int).toNat = 2 ^ i := by rw [Int.toNat_natCast]
        right
        rw [f_X0_still_L27, ms]
        cases hf : fnd (wsP X K x y i) 0 (tEn K) with
        | some j =>
          rw [hf] at ew
          dsimp only at ew
          have ha : anyN (wsP X K x y i) (tEn K) = true := by rw [← fnd_any, hf]; rfl
          obtain ⟨T2, q2⟩ := T.wr16 (kMi K + j)
          refine ⟨(wr τ o 16 (kMi K + j), ((ms (fun k => anyN (wsP X K x y k) (tEn K)) i ||| (2 ^ i) : Nat) : Int), ((i + 1 : Nat) : Int)), ?_, ⟨hq.tr q2, T2⟩, by rw [ha]; rfl⟩
          rw [o_rcv T.1.1, h_mirrors T.1, nrm_i (by omega) (by omega), nrm_i (by omega) (by omega), if_neg (by omega), o_rcv T.1.1, bnP ew, if_neg (by decide), sl1 (by omega) (by omega), e2, orI_nat _ _ (by omega) hpw]
          rfl
        | none =>
          rw [hf] at ew
          dsimp only at ew
          have ha : anyN (wsP X K x y i) (tEn K) = false := by rw [← fnd_any, hf]; rfl
          refine ⟨(τ, (ms (fun k => anyN (wsP X K x y k) (tEn K)) i : Int), ((i + 1 : Nat) : Int)), ?_, ⟨hq, T⟩, by rw [ha, if_neg (by decide), Nat.or_zero]⟩
          rw [o_rcv T.1.1, h_mirrors T.1, nrm_i (by omega) (by omega), nrm_i (by omega) (by omega), if_neg (by omega), o_rcv T.1.1, bnP ew, if_pos (by decide), or0 (by omega)]
          rfl
      · rintro n ⟨τ, q⟩ ⟨⟨hq, T⟩, rfl⟩
        dsimp only at hq T ⊢
        have hm := ms_lt8 hX (fun k => anyN (wsP X K x y k) (tEn K)) (n := (xK X).toNat) (by omega)
        refine ⟨τ, ?_, hq⟩
        rw [f_X0_still_L27, o_rcv T.1.1, h_mirrors T.1, nrm_i (by omega) (by omega), nrm_i (by omega) (by omega), if_pos (by omega), nrm_i (by omega) (by omega)]
    obtain ⟨σ', e9, q9⟩ := lp
    refine ⟨σ', ?_, q9⟩
    simp (disch := omega) only [↓reduceIte, Bool.false_eq_true, nrm_i, ltT, ltF, leT, leF, eqT, eqF, not_true_eq_false, not_false_eq_true, and_self, and_true, true_and, false_and, and_false, or_true, true_or, or_false, false_or, ↓btS, ↓bnS, ↓bdS, ↓jnS, ↓obS, ↓i_t, ↓i_f, ↓man_t I, ↓man_f I, ↓room_t I, ↓room_f I, ↓mir_t I, ↓mir_f I, ↓pas_t I, ↓pas_f I, ↓h_men I, ↓h_rooms I, ↓h_mirrors I, ↓o_rcv hO, ↓o_gI hO, ↓o_g3 hO, ↓o_g7 hO, ↓o_g8 hO, ↓o_g12 hO, ↓bnP e1, ↓e9]
  · rw [if_neg G]
    refine ⟨σ, ?_, chgQ.rf _ _⟩
    by_cases c1 : 0 ≤ x ∧ x < xR X
    · by_cases c2 : 0 ≤ y ∧ y ≤ kMi K
      · exact absurd ⟨c1, c2⟩ G
      · simp (disch := omega) only [↓reduceIte, Bool.false_eq_true, nrm_i, ltT, ltF, leT, leF, eqT, eqF, not_true_eq_false, not_false_eq_true, and_self, and_true, true_and, false_and, and_false, or_true, true_or, or_false, false_or, ↓btS, ↓bnS, ↓bdS, ↓jnS, ↓obS, ↓i_t, ↓i_f, ↓man_t I, ↓man_f I, ↓room_t I, ↓room_f I, ↓mir_t I, ↓mir_f I, ↓pas_t I, ↓pas_f I, ↓h_men I, ↓h_rooms I, ↓h_mirrors I, ↓o_rcv hO, ↓o_gI hO, ↓o_g3 hO, ↓o_g7 hO, ↓o_g8 hO, ↓o_g12 hO]
    · simp (disch := omega) only [↓reduceIte, Bool.false_eq_true, nrm_i, ltT, ltF, leT, leF, eqT, eqF, not_true_eq_false, not_false_eq_true, and_self, and_true, true_and, false_and, and_false, or_true, true_or, or_false, false_or, ↓btS, ↓bnS, ↓bdS, ↓jnS, ↓obS, ↓i_t, ↓i_f, ↓man_t I, ↓man_f I, ↓room_t I, ↓room_f I, ↓mir_t I, ↓mir_f I, ↓pas_t I, ↓pas_f I, ↓h_men I, ↓h_rooms I, ↓h_mirrors I, ↓o_rcv hO, ↓o_gI hO, ↓o_g3 hO, ↓o_g7 hO, ↓o_g8 hO, ↓o_g12 hO]
theorem sg_P (X : Txt) {K : Crt} (hK : 0 ≤ kMi K ∧ kMi K ≤ 299) (x y : Int) : ∀ n : Nat, -2 ≤ (itr (sgG X K x y) n (-2, 300)).1 ∧ (itr (sgG X K x y) n (-2, 300)).1 < n + 1 ∧ 0 ≤ (itr (sgG X K x y) n (-2, 300)).2 ∧ (itr (sgG X K x y) n (-2, 300)).2 ≤ 300 := by
  intro n
  induction n with
  | zero => exact ⟨show (-2 : Int) ≤ -2 by decide, show (-2 : Int) < 0 + 1 by decide, show (0 : Int) ≤ 300 by decide, show (300 : Int) ≤ 300 by decide⟩
  | succ n ih =>
    rw [itr, sgG]
    cases fnd (wsP X K x y n) 0 (tEn K) with
    | some i => dsimp only; split <;> omega
    | none => dsimp only; omega
theorem h_soonest (I : QI Z σ o r X K) {x y z : Int} (wx : wd x) (wy : wd y) (wz : wd z) : ∃ σ' : Hp, f_X0_soonest σ o x y z = some (q_soonest X K x y z, σ') ∧ chgQ o σ σ' := by
  obtain ⟨hO, hx, hZ, hK, hX, hW⟩ := I
  have I : QI Z σ o r X K := ⟨hO, hx, hZ, hK, hX, hW⟩
  have J := I.ci
  have hc := hO.court
  have a0 := hX.1
  have a1 := hX.2.2.1
  have a4 := hX.2.2.2.1
  have a2 := hW.1
  unfold f_X0_soonest q_soonest
  by_cases G : (0 ≤ x ∧ x < xR X) ∧ (0 ≤ y ∧ y ≤ kMi K) ∧ (0 ≤ z ∧ z ≤ 1)
  · rw [if_pos G]
    obtain ⟨c1, c2, c3⟩ := G
    obtain ⟨σ1, e1, J1, q1⟩ := h_goesToEnd I
    have hP := sg_P X a2 x y
    have lp : ∃ σ' : Hp, f_X0_soonest_L43 o FU σ1 x y z (-2) 300 0 (fun s22 x3 x4 x5 => (if nrm x4 < 0 then (some (nrm x4, s22)) else ((if ¬ nrm x3 = nrm 1 then (some (nrm x5, s22)) else (some (nrm x4, s22)))))) = some (if (itr (sgG X K x y) (xK X).toNat (-2, 300)).1 < 0 then (itr (sgG X K x y) (xK X).toNat (-2, 300)).1 else if z = 1 then (itr (sgG X K x y) (xK X).toNat (-2, 300)).1 else (itr (sgG X K x y) (xK X).toNat (-2, 300)).2, σ') ∧ chgQ o σ σ' := by
      refine loop (S := Hp × Int × Int × Int) (fun n q => f_X0_soonest_L43 o n q.1 x y z q.2.1 q.2.2.1 q.2.2.2 (fun s22 x3 x4 x5 => (if nrm x4 < 0 then (some (nrm x4, s22)) else ((if ¬ nrm x3 = nrm 1 then (some (nrm x5, s22)) else (some (nrm x4, s22))))))) (fun w => ∃ σ' : Hp, w = some (if (itr (sgG X K x y) (xK X).toNat (-2, 300)).1 < 0 then (itr (sgG X K x y) (xK X).toNat (-2, 300)).1 else if z = 1 then (itr (sgG X K x y) (xK X).toNat (-2, 300)).1 else (itr (sgG X K x y) (xK X).toNat (-2, 300)).2, σ') ∧ chgQ o σ σ')
        (fun i q => (chgQ o σ q.1 ∧ TR Z q.1 o r X K (kEnd X K)) ∧ q.2 = ((itr (sgG X K x y) i (-2, 300)).1, (itr (sgG X K x y) i (-2, 300)).2, (i : Int))) (xK X).toNat ?_ ?_ (xK X).toNat 0 FU (σ1, -2, 300, 0) (by omega) (by rw [FU_eq]; omega) ⟨⟨q1, I.chg q1, J1⟩, rfl⟩
      · rintro n i ⟨τ, q⟩ hi ⟨⟨hq, T⟩, rfl⟩
        dsimp only at hq T ⊢
        have ew := h_willShow T (k := i) (x := x) (y := y) (by omega) wx c2.1 c2.2
        have hp := hP i
        right
        rw [f_X0_soonest_L43, itr, sgG]
        generalize itr (sgG X K x y) i (-2, 300) = a at hp ⊢
        cases hf : fnd (wsP X K x y i) 0 (tEn K) with
        | some j =>
          rw [hf] at ew
          dsimp only at ew ⊢
          obtain ⟨T2, q2⟩ := T.wr16 (kMi K + j)
          have hj : (j : Int) < 300 - kMi K := by
            have : ∀ (n i : Nat), fnd (wsP X K x y i) 0 n = some j → j < n := by
              intro n i
              have key : ∀ (n s : Nat), fnd (wsP X K x y i) s n = some j → j < s + n := by
                intro n
                induction n with
                | zero => intro s h; cases h
                | succ n ih =>
                  intro s h
                  rw [fnd] at h
                  split at h
                  · cases h; omega
                  · have := ih (s + 1) h; omega
              intro h
              have := key n 0 h
              omega
            have := this _ _ hf
            unfold tEn at this
            omega
          have hO2 := T2.1.1
          have g16 : ci (wr τ o 16 (kMi K + j)) o 16 = kMi K + j := by
            obtain ⟨⟨g, h1, -⟩, -⟩ := T.1.1
            rw [wr_ci (h := h1), fuE]
          have g16' : ∀ {β : Type} (f : Int → Option β), (gI (wr τ o 16 (kMi K + j)) 0 (some o) 16).bind f = f (kMi K + j) := fun f => by rw [o_gI hO2, g16]
          by_cases d : kMi K + j < a.2
          · refine ⟨(wr τ o 16 (kMi K + j), (i : Int), kMi K + j, ((i + 1 : Nat) : Int)), ?_, ⟨hq.tr q2, T2⟩, by rw [if_pos d]⟩
            rw [o_rcv T.1.1, h_mirrors T.1, nrm_i (by omega) (by omega), nrm_i (by omega) (by omega), if_neg (by omega), o_rcv T.1.1, bnP ew, if_neg (by decide), g16', nrm_i (by omega) (by omega), nrm_i (by omega) (by omega), if_pos d, g16']
            rfl
          · refine ⟨(wr τ o 16 (kMi K + j), a.1, a.2, ((i + 1 : Nat) : Int)), ?_, ⟨hq.tr q2, T2⟩, by rw [if_neg d]⟩
            rw [o_rcv T.1.1, h_mirrors T.1, nrm_i (by omega) (by omega), nrm_i (by omega) (by omega), if_neg (by omega), o_rcv T.1.1, bnP ew, if_neg (by decide), g16', nrm_i (by omega) (by omega), nrm_i (by omega) (by omega), if_neg d]
            rfl
        | none =>
          rw [hf] at ew
          dsimp only at ew ⊢
          refine ⟨(τ, a.1, a.2, ((i + 1 : Nat) : Int)), ?_, ⟨hq, T⟩, rfl⟩
          rw [o_rcv T.1.1, h_mirrors T.1, nrm_i (by omega) (by omega), nrm_i (by omega) (by omega), if_neg (by omega), o_rcv T.1.1, bnP ew, if_pos (by decide)]
          rfl
      · rintro n ⟨τ, q⟩ ⟨⟨hq, T⟩, rfl⟩
        dsimp only at hq T ⊢
        have hp := hP (xK X).toNat
        refine ⟨τ, ?_, hq⟩
        rw [f_X0_soonest_L43, o_rcv T.1.1, h_mirrors T.1, nrm_i (by omega) (by omega), nrm_i (by omega) (by omega), if_pos (by omega)]
        generalize itr (sgG X K x y) (xK X).toNat (-2, 300) = a at hp ⊢
        rw [nrm_i (z := a.1) (by omega) (by omega), nrm_i (z := a.2) (by omega) (by omega), nrm_i (z := z) (by omega) (by omega), nrm_i (z := 1) (by decide) (by decide)]
        by_cases d : a.1 < 0
        · rw [if_pos d, if_pos d]
        · rw [if_neg d, if_neg d]
          by_cases d2 : z = 1
          · rw [if_neg (fun h => h d2), if_pos d2]
          · rw [if_pos d2, if_neg d2]
    obtain ⟨σ', e9, q9⟩ := lp
    refine ⟨σ', ?_, q9⟩
    clear hP
    simp (disch := omega) only [↓reduceIte, Bool.false_eq_true, nrm_i, ltT, ltF, leT, leF, eqT, eqF, not_true_eq_false, not_false_eq_true, and_self, and_true, true_and, false_and, and_false, or_true, true_or, or_false, false_or, ↓btS, ↓bnS, ↓bdS, ↓jnS, ↓obS, ↓i_t, ↓i_f, ↓man_t I, ↓man_f I, ↓room_t I, ↓room_f I, ↓mir_t I, ↓mir_f I, ↓pas_t I, ↓pas_f I, ↓h_men I, ↓h_rooms I, ↓h_mirrors I, ↓o_rcv hO, ↓o_gI hO, ↓o_g3 hO, ↓o_g7 hO, ↓o_g8 hO, ↓o_g12 hO, ↓bnP e1, ↓e9]
  · rw [if_neg G]
    refine ⟨σ, ?_, chgQ.rf _ _⟩
    by_cases c1 : 0 ≤ x ∧ x < xR X
    · by_cases c2 : 0 ≤ y ∧ y ≤ kMi K
      · by_cases c3 : 0 ≤ z ∧ z ≤ 1
        · exact absurd ⟨c1, c2, c3⟩ G
        · simp (disch := omega) only [↓reduceIte, Bool.false_eq_true, nrm_i, ltT, ltF, leT, leF, eqT, eqF, not_true_eq_false, not_false_eq_true, and_self, and_true, true_and, false_and, and_false, or_true, true_or, or_false, false_or, ↓btS, ↓bnS, ↓bdS, ↓jnS, ↓obS, ↓i_t, ↓i_f, ↓man_t I, ↓man_f I, ↓room_t I, ↓room_f I, ↓mir_t I, ↓mir_f I, ↓pas_t I, ↓pas_f I, ↓h_men I, ↓h_rooms I, ↓h_mirrors I, ↓o_rcv hO, ↓o_gI hO, ↓o_g3 hO, ↓o_g7 hO, ↓o_g8 hO, ↓o_g12 hO]
      · simp (disch := omega) only [↓reduceIte, Bool.false_eq_true, nrm_i, ltT, ltF, leT, leF, eqT, eqF, not_true_eq_false, not_false_eq_true, and_self, and_true, true_and, false_and, and_false, or_true, true_or, or_false, false_or, ↓btS, ↓bnS, ↓bdS, ↓jnS, ↓obS, ↓i_t, ↓i_f, ↓man_t I, ↓man_f I, ↓room_t I, ↓room_f I, ↓mir_t I, ↓mir_f I, ↓pas_t I, ↓pas_f I, ↓h_men I, ↓h_rooms I, ↓h_mirrors I, ↓o_rcv hO, ↓o_gI hO, ↓o_g3 hO, ↓o_g7 hO, ↓o_g8 hO, ↓o_g12 hO]
    · simp (disch := omega) only [↓reduceIte, Bool.false_eq_true, nrm_i, ltT, ltF, leT, leF, eqT, eqF, not_true_eq_false, not_false_eq_true, and_self, and_true, true_and, false_and, and_false, or_true, true_or, or_false, false_or, ↓btS, ↓bnS, ↓bdS, ↓jnS, ↓obS, ↓i_t, ↓i_f, ↓man_t I, ↓man_f I, ↓room_t I, ↓room_f I, ↓mir_t I, ↓mir_f I, ↓pas_t I, ↓pas_f I, ↓h_men I, ↓h_rooms I, ↓h_mirrors I, ↓o_rcv hO, ↓o_gI hO, ↓o_g3 hO, ↓o_g7 hO, ↓o_g8 hO, ↓o_g12 hO]
end
