set_option maxRecDepth 100000
set_option maxHeartbeats 4000000
/-! ===== PURE: what is asked writes cells of its own alone ===== -/
def qS (o x : Nat) : Prop := x = o + 59 ∨ x = o + 60 ∨ (o + 61 ≤ x ∧ x < o + 108) ∨ x = o + 252 ∨ x = o + 253 ∨ (o + 255 ≤ x ∧ x < o + 263) ∨ (o + 264 ≤ x ∧ x < o + 273)
def chgQ (o : Nat) (σ σ' : Hp) : Prop := chgH (fun x => x = o ∨ qS o x) σ σ' ∧ ∀ i : Int, i ≠ 16 → ci σ' o i = ci σ o i
theorem chgQ.rf (o : Nat) (σ : Hp) : chgQ o σ σ := ⟨chgH.rf _ _, fun _ _ => rfl⟩
theorem chgQ.tr {o : Nat} {a b c : Hp} (h : chgQ o a b) (g : chgQ o b c) : chgQ o a c := ⟨h.1.tr g.1, fun i hi => (g.2 i hi).trans (h.2 i hi)⟩
theorem chgQ.of {o : Nat} {a b : Hp} {S : Nat → Prop} (h : chgH S a b) (hS : ∀ x, S x → qS o x) : chgQ o a b := ⟨h.up fun x hx => Or.inr (hS x hx), fun i _ => by rw [h.num (fun q => by have := hS o q; unfold qS at this; omega)]⟩
theorem chgQ.wr {o : Nat} {a b : Hp} (h : chgQ o a b) {x : Nat} (hx : qS o x) (i v : Int) : chgQ o a (wr b x i v) := h.tr (chgQ.of (S := fun y => y = x) ((chgH.rf (fun y => y = x) b).wr (a := x) rfl i v) (fun y e => by rw [e]; exact hx))
section
variable {Z : Nat → Prop} {σ σ' : Hp} {o r : Nat} {X : Txt} {K : Crt} {β : Type}
theorem QI.chg (I : QI Z σ o r X K) (e : chgQ o σ σ') : QI Z σ' o r X K := by
  obtain ⟨hO, hx, hZ, hK, hX, hW⟩ := I
  refine ⟨hO.chg e.1, hx.same (agr_chg e.1 fun x hz h => hZ x hz ?_), hZ, hK.same e.1 (fun k hk h => ?_) hX, hX, hW⟩
  · unfold stS
    unfold qS at h
    omega
  · unfold qS at h
    omega
theorem QI.zc (I : QI Z σ o r X K) : ∀ k : Nat, k < 47 → ¬ Z (o + 14 + k) := fun k hk hz => I.2.2.1 _ hz (by unfold stS; omega)
theorem QI.zt (I : QI Z σ o r X K) : ∀ k : Nat, k < 47 → ¬ Z (o + 61 + k) := fun k hk hz => I.2.2.1 _ hz (by unfold stS; omega)
theorem h_late (I : QI Z σ o r X K) {k rk : Int} (h0 : 0 ≤ k) (h1 : k < xK X) (k0 : 0 ≤ rk) (k1 : rk ≤ 20) : ∃ σ' : Hp, f_X5_lateBy σ (o + 14) (some r) k rk = some (lat X K k rk, σ') ∧ chgQ o σ σ' := by
  obtain ⟨σ', e, c⟩ := h_lateBy I.1.court I.2.1 I.zc I.2.2.2.1 I.2.2.2.2.1 I.2.2.2.2.2 h0 h1 k0 k1
  exact ⟨σ', e, chgQ.of c (fun x hx => by unfold askS at hx; unfold qS; omega)⟩
theorem lat_in (X : Txt) (K : Crt) (k rk : Int) : 0 ≤ lat X K k rk ∧ lat X K k rk ≤ 240 := clp_in _
end
/-! ===== what rank for a minute ===== -/
def q_rankFor (X : Txt) (K : Crt) (x y : Int) : Int := if (0 ≤ x ∧ x < xK X) ∧ (0 ≤ y ∧ y ≤ kMi K) then (if kB K x = 300 ∧ kU K x (kMi K) = 0 ∧ kU K x y = 0 then (match fnd (fun k => decide (kMi K - lat X K x k = y)) 0 21 with | some k => (k : Int) | none => -2) else -2) else -1
def jlG (X : Txt) (K : Crt) (m rk : Int) (k : Nat) (a : Int × Int × Int × Int) : Int × Int × Int × Int := if xOw X k = m ∧ kB K k = 300 then
  (1, if a.1 = 0 ∨ a.2.1 < lat X K k rk - kL K k (kMi K) then lat X K k rk - kL K k (kMi K) else a.2.1, a.2.2.1 + (if 0 < lat X K k rk - kL K k (kMi K) then lat X K k rk - kL K k (kMi K) else 0), a.2.2.2 - (if 0 < lat X K k rk - kL K k (kMi K) then 0 else lat X K k rk - kL K k (kMi K))) else a
def jlT (X : Txt) (K : Crt) (m rk : Int) : Int × Int × Int × Int := itr (jlG X K m rk) (xK X).toNat (0, 0, 0, 0)
def q_jolt (X : Txt) (K : Crt) (x y z : Int) : Int := if (0 ≤ x ∧ x < xM X) ∧ (0 ≤ y ∧ y ≤ 20) ∧ (0 ≤ z ∧ z ≤ 2) then (if z = 0 then (jlT X K x y).2.1 else if z = 1 then (jlT X K x y).2.2.1 else (jlT X K x y).2.2.2) else -1000
theorem jl_P {X : Txt} {K : Crt} (hW : WfK X K) (m rk : Int) : ∀ n : Nat, (n : Int) ≤ xK X → ((itr (jlG X K m rk) n (0, 0, 0, 0)).1 = 0 ∨ (itr (jlG X K m rk) n (0, 0, 0, 0)).1 = 1) ∧ (-240 ≤ (itr (jlG X K m rk) n (0, 0, 0, 0)).2.1 ∧ (itr (jlG X K m rk) n (0, 0, 0, 0)).2.1 ≤ 240) ∧ (0 ≤ (itr (jlG X K m rk) n (0, 0, 0, 0)).2.2.1 ∧ (itr (jlG X K m rk) n (0, 0, 0, 0)).2.2.1 ≤ 240 * n) ∧ (0 ≤ (itr (jlG X K m rk) n (0, 0, 0, 0)).2.2.2 ∧ (itr (jlG X K m rk) n (0, 0, 0, 0)).2.2.2 ≤ 240 * n) ∧ ((itr (jlG X K m rk) n (0, 0, 0, 0)).1 = 0 → (itr (jlG X K m rk) n (0, 0, 0, 0)).2.1 = 0) := by
  intro n
  induction n with
  | zero => intro _; exact ⟨Or.inl rfl, ⟨show (-240 : Int) ≤ 0 by decide, show (0 : Int) ≤ 240 by decide⟩, ⟨Int.le_refl _, Int.le_refl _⟩, ⟨Int.le_refl _, Int.le_refl _⟩, fun _ => rfl⟩
  | succ n ih =>
    intro hn
    have h := ih (by omega)
    have h1 := lat_in X K n rk
    have h2 := (hW.2.2.1 n (kMi K) (by omega) (by omega) hW.1.1 (Int.le_refl _)).2.2 (Int.le_refl _)
    have hv : -240 ≤ lat X K n rk - kL K n (kMi K) ∧ lat X K n rk - kL K n (kMi K) ≤ 240 := by omega
    rw [itr, jlG]
    generalize itr (jlG X K m rk) n (0, 0, 0, 0) = a at h ⊢
    generalize lat X K n rk - kL K n (kMi K) = v at hv ⊢
    split
    · dsimp only
      by_cases c : 0 < v
      · rw [if_pos c, if_pos c]
        refine ⟨Or.inr rfl, ?_, ?_, ?_, fun h => by cases h⟩
        · split <;> omega
        · omega
        · omega
      · rw [if_neg c, if_neg c]
        refine ⟨Or.inr rfl, ?_, ?_, ?_, fun h => by cases h⟩
        · split <;> omega
        · omega
        · omega
    · omega
section
variable {Z : Nat → Prop} {σ : Hp} {o r : Nat} {X : Txt} {K : Crt} {β : Type}
theorem h_rankFor (I : QI Z σ o r X K) {x y : Int} (wx : wd x) (wy : wd y) : ∃ σ' : Hp, f_X0_rankFor σ o x y = some (q_rankFor X K x y, σ') ∧ chgQ o σ σ' := by
  obtain ⟨hO, hx, hZ, hK, hX, hW⟩ := I
  have I : QI Z σ o r X K := ⟨hO, hx, hZ, hK, hX, hW⟩
  have J := I.ci
  have hc := hO.court
  have a0 := hX.1
  have a1 := hX.2.2.1
  have a4 := hX.2.2.2.1
  have a2 := hW.1
  unfold f_X0_rankFor q_rankFor
  by_cases c1 : 0 ≤ x ∧ x < xK X <;> by_cases c2 : 0 ≤ y ∧ y ≤ kMi K
  · have hb := (hW.2.2.2 x c1.1 c1.2).1
    have hu := (hW.2.2.1 x (kMi K) c1.1 c1.2 a2.1 (Int.le_refl _)).2.1
    have hu2 := (hW.2.2.1 x y c1.1 c1.2 c2.1 c2.2).2.1
    by_cases G : kB K x = 300 ∧ kU K x (kMi K) = 0 ∧ kU K x y = 0
    · rw [if_pos ⟨c1, c2⟩, if_pos G]
      obtain ⟨g1, g2, g3⟩ := G
      simp (disch := omega) only [↓reduceIte, Bool.false_eq_true, nrm_i, ltT, ltF, leT, leF, eqT, eqF, not_true_eq_false, not_false_eq_true, and_self, and_true, true_and, false_and, and_false, or_true, true_or, or_false, false_or, ↓btS, ↓bnS, ↓bdS, ↓jnS, ↓obS, n_W hX hW, n_R hW, n_H hX hW, n_U hW, n_L hW, n_B hW, n_S hW, n_M hX, n_Ms hX, n_P, ↓i_t, ↓i_f, ↓man_t I, ↓man_f I, ↓room_t I, ↓room_f I, ↓mir_t I, ↓mir_f I, ↓pas_t I, ↓pas_f I, ↓h_men I, ↓h_rooms I, ↓h_mirrors I, ↓o_rcv hO, ↓o_gI hO, ↓o_g3 hO, ↓o_g7 hO, ↓o_g8 hO, ↓o_g12 hO, ↓c_ob hc, ↓cb_mi J, ↓c_g0b hc, ↓c_g1b hc, ↓c_g2b hc, ↓c_g3b hc, ↓c_g4b hc, ↓c_r0b hc, ↓c_r1b hc, ↓c_r2b hc, ↓c_r3b hc, ↓c_r4b hc, ↓cb_W J, ↓cb_R J, ↓cb_H J, ↓cb_U J, ↓cb_L J, ↓hb_shows J, ↓hb_menIn J, ↓hb_menShown J, ↓hb_isBroken J, ↓hb_bits, g1, g2, g3]
      have key : ∀ (j i n : Nat) (τ : Hp), i + j = 21 → j < n → chgQ o σ τ → ∃ σ' : Hp, f_X0_rankFor_L72 o n τ x y (kMi K) (i : Int) (fun s28 => some (-2, s28)) = some ((match fnd (fun k => decide (kMi K - lat X K x k = y)) i j with | some k => (k : Int) | none => -2), σ') ∧ chgQ o σ σ' := by
        intro j
        induction j with
        | zero =>
          intro i n τ hi hn hc
          obtain ⟨n, rfl⟩ : ∃ q, n = q + 1 := ⟨n - 1, by omega⟩
          exact ⟨τ, by rw [f_X0_rankFor_L72]; simp (disch := omega) only [↓reduceIte, Bool.false_eq_true, nrm_i, ltT, ltF, leT, leF, eqT, eqF, not_true_eq_false, not_false_eq_true, and_self, and_true, true_and, false_and, and_false, or_true, true_or, or_false, false_or, ↓btS, ↓bnS, ↓bdS, ↓jnS, ↓obS, fnd], hc⟩
        | succ j ih =>
          intro i n τ hi hn hcq
          obtain ⟨n, rfl⟩ : ∃ q, n = q + 1 := ⟨n - 1, by omega⟩
          have I2 := I.chg hcq
          obtain ⟨τ1, e1, q1⟩ := h_late I2 c1.1 c1.2 (rk := i) (by omega) (by omega)
          have hl := lat_in X K x i
          rw [f_X0_rankFor_L72, fnd]
          by_cases c : kMi K - lat X K x i = y
          · refine ⟨τ1, ?_, hcq.tr q1⟩
            simp (disch := omega) only [↓reduceIte, Bool.false_eq_true, nrm_i, ltT, ltF, leT, leF, eqT, eqF, not_true_eq_false, not_false_eq_true, and_self, and_true, true_and, false_and, and_false, or_true, true_or, or_false, false_or, ↓btS, ↓bnS, ↓bdS, ↓jnS, ↓obS, ↓o_g7 I2.1, ↓o_g3 I2.1, ↓c_ob I2.1.court, ↓bnP e1, c, decide_true]
          · obtain ⟨σ', e2, q2⟩ := ih (i + 1) n τ1 (by omega) (by omega) (hcq.tr q1)
            refine ⟨σ', ?_, q2⟩
            simp (disch := omega) only [↓reduceIte, Bool.false_eq_true, nrm_i, ltT, ltF, leT, leF, eqT, eqF, not_true_eq_false, not_false_eq_true, and_self, and_true, true_and, false_and, and_false, or_true, true_or, or_false, false_or, ↓btS, ↓bnS, ↓bdS, ↓jnS, ↓obS, ↓o_g7 I2.1, ↓o_g3 I2.1, ↓c_ob I2.1.court, ↓bnP e1, c, decide_false]
            exact e2
      exact key 21 0 FU σ rfl (by decide) (chgQ.rf _ _)
    · rw [if_pos ⟨c1, c2⟩, if_neg G]
      refine ⟨σ, ?_, chgQ.rf _ _⟩
      have hu' : kU K x (kMi K) = 0 ∨ ¬ kU K x (kMi K) = 0 := by omega
      have hu2' : kU K x y = 0 ∨ ¬ kU K x y = 0 := by omega
      by_cases g1 : kB K x = 300
      · by_cases g2 : kU K x (kMi K) = 0
        · by_cases g3 : kU K x y = 0
          · exact absurd ⟨g1, g2, g3⟩ G
          · simp (disch := omega) only [↓reduceIte, Bool.false_eq_true, nrm_i, ltT, ltF, leT, leF, eqT, eqF, not_true_eq_false, not_false_eq_true, and_self, and_true, true_and, false_and, and_false, or_true, true_or, or_false, false_or, ↓btS, ↓bnS, ↓bdS, ↓jnS, ↓obS, n_W hX hW, n_R hW, n_H hX hW, n_U hW, n_L hW, n_B hW, n_S hW, n_M hX, n_Ms hX, n_P, ↓i_t, ↓i_f, ↓man_t I, ↓man_f I, ↓room_t I, ↓room_f I, ↓mir_t I, ↓mir_f I, ↓pas_t I, ↓pas_f I, ↓h_men I, ↓h_rooms I, ↓h_mirrors I, ↓o_rcv hO, ↓o_gI hO, ↓o_g3 hO, ↓o_g7 hO, ↓o_g8 hO, ↓o_g12 hO, ↓c_ob hc, ↓cb_mi J, ↓c_g0b hc, ↓c_g1b hc, ↓c_g2b hc, ↓c_g3b hc, ↓c_g4b hc, ↓c_r0b hc, ↓c_r1b hc, ↓c_r2b hc, ↓c_r3b hc, ↓c_r4b hc, ↓cb_W J, ↓cb_R J, ↓cb_H J, ↓cb_U J, ↓cb_L J, ↓hb_shows J, ↓hb_menIn J, ↓hb_menShown J, ↓hb_isBroken J, ↓hb_bits]
        · simp (disch := omega) only [↓reduceIte, Bool.false_eq_true, nrm_i, ltT, ltF, leT, leF, eqT, eqF, not_true_eq_false, not_false_eq_true, and_self, and_true, true_and, false_and, and_false, or_true, true_or, or_false, false_or, ↓btS, ↓bnS, ↓bdS, ↓jnS, ↓obS, n_W hX hW, n_R hW, n_H hX hW, n_U hW, n_L hW, n_B hW, n_S hW, n_M hX, n_Ms hX, n_P, ↓i_t, ↓i_f, ↓man_t I, ↓man_f I, ↓room_t I, ↓room_f I, ↓mir_t I, ↓mir_f I, ↓pas_t I, ↓pas_f I, ↓h_men I, ↓h_rooms I, ↓h_mirrors I, ↓o_rcv hO, ↓o_gI hO, ↓o_g3 hO, ↓o_g7 hO, ↓o_g8 hO, ↓o_g12 hO, ↓c_ob hc, ↓cb_mi J, ↓c_g0b hc, ↓c_g1b hc, ↓c_g2b hc, ↓c_g3b hc, ↓c_g4b hc, ↓c_r0b hc, ↓c_r1b hc, ↓c_r2b hc, ↓c_r3b hc, ↓c_r4b hc, ↓cb_W J, ↓cb_R J, ↓cb_H J, ↓cb_U J, ↓cb_L J, ↓hb_shows J, ↓hb_menIn J, ↓hb_menShown J, ↓hb_isBroken J, ↓hb_bits]
      · simp (disch := omega) only [↓reduceIte, Bool.false_eq_true, nrm_i, ltT, ltF, leT, leF, eqT, eqF, not_true_eq_false, not_false_eq_true, and_self, and_true, true_and, false_and, and_false, or_true, true_or, or_false, false_or, ↓btS, ↓bnS, ↓bdS, ↓jnS, ↓obS, n_W hX hW, n_R hW, n_H hX hW, n_U hW, n_L hW, n_B hW, n_S hW, n_M hX, n_Ms hX, n_P, ↓i_t, ↓i_f, ↓man_t I, ↓man_f I, ↓room_t I, ↓room_f I, ↓mir_t I, ↓mir_f I, ↓pas_t I, ↓pas_f I, ↓h_men I, ↓h_rooms I, ↓h_mirrors I, ↓o_rcv hO, ↓o_gI hO, ↓o_g3 hO, ↓o_g7 hO, ↓o_g8 hO, ↓o_g12 hO, ↓c_ob hc, ↓cb_mi J, ↓c_g0b hc, ↓c_g1b hc, ↓c_g2b hc, ↓c_g3b hc, ↓c_g4b hc, ↓c_r0b hc, ↓c_r1b hc, ↓c_r2b hc, ↓c_r3b hc, ↓c_r4b hc, ↓cb_W J, ↓cb_R J, ↓cb_H J, ↓cb_U J, ↓cb_L J, ↓hb_shows J, ↓hb_menIn J, ↓hb_menShown J, ↓hb_isBroken J, ↓hb_bits]
  all_goals exact ⟨σ, by simp (disch := omega) only [↓reduceIte, Bool.false_eq_true, nrm_i, ltT, ltF, leT, leF, eqT, eqF, not_true_eq_false, not_false_eq_true, and_self, and_true, true_and, false_and, and_false, or_true, true_or, or_false, false_or, ↓btS, ↓bnS, ↓bdS, ↓jnS, ↓obS, n_W hX hW, n_R hW, n_H hX hW, n_U hW, n_L hW, n_B hW, n_S hW, n_M hX, n_Ms hX, n_P, ↓i_t, ↓i_f, ↓man_t I, ↓man_f I, ↓room_t I, ↓room_f I, ↓mir_t I, ↓mir_f I, ↓pas_t I, ↓pas_f I, ↓h_men I, ↓h_rooms I, ↓h_mirrors I, ↓o_rcv hO, ↓o_gI hO, ↓o_g3 hO, ↓o_g7 hO, ↓o_g8 hO, ↓o_g12 hO, ↓c_ob hc, ↓cb_mi J, ↓c_g0b hc, ↓c_g1b hc, ↓c_g2b hc, ↓c_g3b hc, ↓c_g4b hc, ↓c_r0b hc, ↓c_r1b hc, ↓c_r2b hc, ↓c_r3b hc, ↓c_r4b hc, ↓cb_W J, ↓cb_R J, ↓cb_H J, ↓cb_U J, ↓cb_L J, ↓hb_shows J, ↓hb_menIn J, ↓hb_menShown J, ↓hb_isBroken J, ↓hb_bits, c1, c2], chgQ.rf _ _⟩
theorem h_jolt (I : QI Z σ o r X K) {x y z : Int} (wx : wd x) (wy : wd y) (wz : wd z) : ∃ σ' : Hp, f_X0_jolt σ o x y z = some (q_jolt X K x y z, σ') ∧ chgQ o σ σ' := by
  obtain ⟨hO, hx, hZ, hK, hX, hW⟩ := I
  have I : QI Z σ o r X K := ⟨hO, hx, hZ, hK, hX, hW⟩
  have J := I.ci
  have hc := hO.court
  have a0 := hX.1
  have a1 := hX.2.2.1
  have a4 := hX.2.2.2.1
  have a2 := hW.1
  unfold f_X0_jolt q_jolt
  by_cases G : (0 ≤ x ∧ x < xM X) ∧ (0 ≤ y ∧ y ≤ 20) ∧ (0 ≤ z ∧ z ≤ 2)
  · rw [if_pos G]
    obtain ⟨c1, c2, c3⟩ := G
    simp (disch := omega) only [↓reduceIte, Bool.false_eq_true, nrm_i, ltT, ltF, leT, leF, eqT, eqF, not_true_eq_false, not_false_eq_true, and_self, and_true, true_and, false_and, and_false, or_true, true_or, or_false, false_or, ↓btS, ↓bnS, ↓bdS, ↓jnS, ↓obS, n_W hX hW, n_R hW, n_H hX hW, n_U hW, n_L hW, n_B hW, n_S hW, n_M hX, n_Ms hX, n_P, ↓i_t, ↓i_f, ↓man_t I, ↓man_f I, ↓room_t I, ↓room_f I, ↓mir_t I, ↓mir_f I, ↓pas_t I, ↓pas_f I, ↓h_men I, ↓h_rooms I, ↓h_mirrors I, ↓o_rcv hO, ↓o_gI hO, ↓o_g3 hO, ↓o_g7 hO, ↓o_g8 hO, ↓o_g12 hO, ↓c_ob hc, ↓cb_mi J, ↓c_g0b hc, ↓c_g1b hc, ↓c_g2b hc, ↓c_g3b hc, ↓c_g4b hc, ↓c_r0b hc, ↓c_r1b hc, ↓c_r2b hc, ↓c_r3b hc, ↓c_r4b hc, ↓cb_W J, ↓cb_R J, ↓cb_H J, ↓cb_U J, ↓cb_L J, ↓hb_shows J, ↓hb_menIn J, ↓hb_menShown J, ↓hb_isBroken J, ↓hb_bits]
    have hP := jl_P hW x y
    refine loop (S := Hp × Int × Int × Int × Int) (fun n q => f_X0_jolt_L45 o n q.1 x y z q.2.1 q.2.2.1 q.2.2.2.1 q.2.2.2.2 (fun s38 x3 x4 x5 x6 => (if ¬ nrm x3 = nrm 1 then ((if ¬ nrm x3 = nrm 2 then ((if ¬ nrm x4 = nrm (-1000000) then (some (nrm x4, s38)) else (some (0, s38)))) else (some (nrm x6, s38)))) else (some (nrm x5, s38))))) (fun w => ∃ σ' : Hp, w = some (if z = 0 then (jlT X K x y).2.1 else if z = 1 then (jlT X K x y).2.2.1 else (jlT X K x y).2.2.2, σ') ∧ chgQ o σ σ')
      (fun i q => chgQ o σ q.1 ∧ q.2 = (if (itr (jlG X K x y) i (0, 0, 0, 0)).1 = 0 then -1000000 else (itr (jlG X K x y) i (0, 0, 0, 0)).2.1, (itr (jlG X K x y) i (0, 0, 0, 0)).2.2.1, (itr (jlG X K x y) i (0, 0, 0, 0)).2.2.2, (i : Int))) (xK X).toNat ?_ ?_ (xK X).toNat 0 FU (σ, -1000000, 0, 0, 0) (by omega) (by rw [FU_eq]; omega) ⟨chgQ.rf _ _, rfl⟩
    · rintro n i ⟨τ, q⟩ hi ⟨hcq, rfl⟩
      dsimp only at hcq ⊢
      have I2 := I.chg hcq
      have hO2 := I2.1
      have hx2 := I2.2.1
      have hK2 := I2.2.2.2.1
      have hc2 := hO2.court
      have J2 := I2.ci
      have hb := (hW.2.2.2 i (by omega) (by omega)).1
      have ho := (hX.2.2.2.2.2.2.2.2 i (by omega) (by omega)).2
      have hp := hP i (by omega)
      obtain ⟨bk, ek, k1, k2, k3⟩ := x_mirrors hx2
      obtain ⟨-, gm, n1, -, n3⟩ := k3 i (by omega) (by omega)
      right
      rw [f_X0_jolt_L45, itr, jlG]
      generalize itr (jlG X K x y) i (0, 0, 0, 0) = a at hp ⊢
      by_cases c4 : xOw X i = x
      · by_cases c5 : kB K i = 300
        · obtain ⟨τ1, e1, q1⟩ := h_late I2 (k := i) (rk := y) (by omega) (by omega) (by omega) (by omega)
          have I3 := I2.chg q1
          have hO3 := I3.1
          have J3 := I3.ci
          have hc3 := hO3.court
          have hl := lat_in X K i y
          have h2 := (hW.2.2.1 i (kMi K) (by omega) (by omega) hW.1.1 (Int.le_refl _)).2.2 (Int.le_refl _)
          have hv : -240 ≤ lat X K i y - kL K i (kMi K) ∧ lat X K i y - kL K i (kMi K) ≤ 240 := by omega
          have e9 : mxI (if a.1 = 0 then -1000000 else a.2.1) (lat X K i y - kL K i (kMi K)) = if a.1 = 0 ∨ a.2.1 < lat X K i y - kL K i (kMi K) then lat X K i y - kL K i (kMi K) else a.2.1 := by
            generalize lat X K i y - kL K i (kMi K) = v at hv ⊢
            unfold mxI
            by_cases c6 : a.1 = 0
            · simp (disch := omega) only [↓reduceIte, Bool.false_eq_true, nrm_i, ltT, ltF, leT, leF, eqT, eqF, not_true_eq_false, not_false_eq_true, and_self, and_true, true_and, false_and, and_false, or_true, true_or, or_false, false_or, ↓btS, ↓bnS, ↓bdS, ↓jnS, ↓obS, c6]
            · by_cases c7 : a.2.1 < v
              · simp (disch := omega) only [↓reduceIte, Bool.false_eq_true, nrm_i, ltT, ltF, leT, leF, eqT, eqF, not_true_eq_false, not_false_eq_true, and_self, and_true, true_and, false_and, and_false, or_true, true_or, or_false, false_or, ↓btS, ↓bnS, ↓bdS, ↓jnS, ↓obS, c6, c7]
              · simp (disch := omega) only [↓reduceIte, Bool.false_eq_true, nrm_i, ltT, ltF, leT, leF, eqT, eqF, not_true_eq_false, not_false_eq_true, and_self, and_true, true_and, false_and, and_false, or_true, true_or, or_false, false_or, ↓btS, ↓bnS, ↓bdS, ↓jnS, ↓obS, c6, c7]
          have e10 : a.2.2.1 + mxI 0 (lat X K i y - kL K i (kMi K)) = a.2.2.1 + if 0 < lat X K i y - kL K i (kMi K) then lat X K i y - kL K i (kMi K) else 0 := by
            unfold mxI
            rw [nrm_0, nrm_i (by omega) (by omega)]
          have e11 : a.2.2.2 + mxI 0 (-(lat X K i y - kL K i (kMi K))) = a.2.2.2 - (if 0 < lat X K i y - kL K i (kMi K) then 0 else lat X K i y - kL K i (kMi K)) := by
            generalize lat X K i y - kL K i (kMi K) = v at hv ⊢
            unfold mxI
            rw [nrm_0, nrm_i (by omega) (by omega)]
            by_cases c7 : 0 < v
            · rw [if_pos c7, if_neg (by omega)]; omega
            · rw [if_neg c7]
              split <;> omega
          refine ⟨(τ1, (mxI (if a.1 = 0 then -1000000 else a.2.1) (lat X K i y - kL K i (kMi K)), a.2.2.1 + mxI 0 (lat X K i y - kL K i (kMi K)), a.2.2.2 + mxI 0 (-(lat X K i y - kL K i (kMi K))), ((i + 1 : Nat) : Int))), ?_, hcq.tr q1, by rw [if_pos (show xOw X i = x ∧ kB K i = 300 from ⟨c4, c5⟩)]; dsimp only; rw [if_neg (show ¬ (1 : Int) = 0 by decide), e9, e10, e11]⟩
          clear e9 e10 e11 hp hP hb hv hl h2 wx wy wz
          dsimp only
          generalize (if a.1 = 0 then (-1000000 : Int) else a.2.1) = A
          simp (disch := omega) only [↓reduceIte, Bool.false_eq_true, nrm_i, ltT, ltF, leT, leF, eqT, eqF, not_true_eq_false, not_false_eq_true, and_self, and_true, true_and, false_and, and_false, or_true, true_or, or_false, false_or, ↓btS, ↓bnS, ↓bdS, ↓jnS, ↓obS, n_B hW, n_L hW, ↓o_rcv hO2, ↓h_mirrors I2, ↓o_g3 hO2, ↓obP k1, ↓l_rcvb k2, ↓l_getb k2, ↓kst_1 n1, ↓gI_b n1, n3, ↓o_g7 hO2, ↓cb_mi J2, ↓c_ob hc2, ↓hb_isBroken J2, ↓bnP e1, ↓o_g7 hO3, ↓c_g4b hc3, ↓c_r4b hc3, ↓cb_mi J3, ↓cb_L J3]
          rfl
        · refine ⟨(τ, (if a.1 = 0 then -1000000 else a.2.1, a.2.2.1, a.2.2.2, ((i + 1 : Nat) : Int))), ?_, hcq, by rw [if_neg (show ¬ (xOw X i = x ∧ kB K i = 300) from fun h => c5 h.2)]⟩
          simp (disch := omega) only [↓reduceIte, Bool.false_eq_true, nrm_i, ltT, ltF, leT, leF, eqT, eqF, not_true_eq_false, not_false_eq_true, and_self, and_true, true_and, false_and, and_false, or_true, true_or, or_false, false_or, ↓btS, ↓bnS, ↓bdS, ↓jnS, ↓obS, n_B hW, ↓o_rcv hO2, ↓h_mirrors I2, ↓o_g3 hO2, ↓obP k1, ↓l_rcvb k2, ↓l_getb k2, ↓kst_1 n1, ↓gI_b n1, n3, ↓o_g7 hO2, ↓cb_mi J2, ↓c_ob hc2, ↓hb_isBroken J2]
          rfl
      · refine ⟨(τ, (if a.1 = 0 then -1000000 else a.2.1, a.2.2.1, a.2.2.2, ((i + 1 : Nat) : Int))), ?_, hcq, by rw [if_neg (show ¬ (xOw X i = x ∧ kB K i = 300) from fun h => c4 h.1)]⟩
        simp (disch := omega) only [↓reduceIte, Bool.false_eq_true, nrm_i, ltT, ltF, leT, leF, eqT, eqF, not_true_eq_false, not_false_eq_true, and_self, and_true, true_and, false_and, and_false, or_true, true_or, or_false, false_or, ↓btS, ↓bnS, ↓bdS, ↓jnS, ↓obS, ↓o_rcv hO2, ↓h_mirrors I2, ↓o_g3 hO2, ↓obP k1, ↓l_rcvb k2, ↓l_getb k2, ↓kst_1 n1, ↓gI_b n1, n3]
        rfl
    · rintro n ⟨τ, q⟩ ⟨hcq, rfl⟩
      dsimp only at hcq ⊢
      have I2 := I.chg hcq
      have hp := hP (xK X).toNat (by omega)
      refine ⟨τ, ?_, hcq⟩
      unfold jlT
      rw [f_X0_jolt_L45]
      generalize itr (jlG X K x y) (xK X).toNat (0, 0, 0, 0) = a at hp ⊢
      rcases (show z = 0 ∨ z = 1 ∨ z = 2 by omega) with rfl | rfl | rfl
      · by_cases c6 : a.1 = 0
        · have := hp.2.2.2.2 c6
          simp (disch := omega) only [↓reduceIte, Bool.false_eq_true, nrm_i, ltT, ltF, leT, leF, eqT, eqF, not_true_eq_false, not_false_eq_true, and_self, and_true, true_and, false_and, and_false, or_true, true_or, or_false, false_or, ↓btS, ↓bnS, ↓bdS, ↓jnS, ↓obS, ↓o_rcv I2.1, ↓h_mirrors I2, c6, this]
        · simp (disch := omega) only [↓reduceIte, Bool.false_eq_true, nrm_i, ltT, ltF, leT, leF, eqT, eqF, not_true_eq_false, not_false_eq_true, and_self, and_true, true_and, false_and, and_false, or_true, true_or, or_false, false_or, ↓btS, ↓bnS, ↓bdS, ↓jnS, ↓obS, ↓o_rcv I2.1, ↓h_mirrors I2, c6]
      · simp (disch := omega) only [↓reduceIte, Bool.false_eq_true, nrm_i, ltT, ltF, leT, leF, eqT, eqF, not_true_eq_false, not_false_eq_true, and_self, and_true, true_and, false_and, and_false, or_true, true_or, or_false, false_or, ↓btS, ↓bnS, ↓bdS, ↓jnS, ↓obS, ↓o_rcv I2.1, ↓h_mirrors I2]
      · simp (disch := omega) only [↓reduceIte, Bool.false_eq_true, nrm_i, ltT, ltF, leT, leF, eqT, eqF, not_true_eq_false, not_false_eq_true, and_self, and_true, true_and, false_and, and_false, or_true, true_or, or_false, false_or, ↓btS, ↓bnS, ↓bdS, ↓jnS, ↓obS, ↓o_rcv I2.1, ↓h_mirrors I2]
  · rw [if_neg G]
    refine ⟨σ, ?_, chgQ.rf _ _⟩
    by_cases c1 : 0 ≤ x ∧ x < xM X
    · by_cases c2 : 0 ≤ y ∧ y ≤ 20
      · by_cases c3 : 0 ≤ z ∧ z ≤ 2
        · exact absurd ⟨c1, c2, c3⟩ G
        · simp (disch := omega) only [↓reduceIte, Bool.false_eq_true, nrm_i, ltT, ltF, leT, leF, eqT, eqF, not_true_eq_false, not_false_eq_true, and_self, and_true, true_and, false_and, and_false, or_true, true_or, or_false, false_or, ↓btS, ↓bnS, ↓bdS, ↓jnS, ↓obS, n_W hX hW, n_R hW, n_H hX hW, n_U hW, n_L hW, n_B hW, n_S hW, n_M hX, n_Ms hX, n_P, ↓i_t, ↓i_f, ↓man_t I, ↓man_f I, ↓room_t I, ↓room_f I, ↓mir_t I, ↓mir_f I, ↓pas_t I, ↓pas_f I, ↓h_men I, ↓h_rooms I, ↓h_mirrors I, ↓o_rcv hO, ↓o_gI hO, ↓o_g3 hO, ↓o_g7 hO, ↓o_g8 hO, ↓o_g12 hO, ↓c_ob hc, ↓cb_mi J, ↓c_g0b hc, ↓c_g1b hc, ↓c_g2b hc, ↓c_g3b hc, ↓c_g4b hc, ↓c_r0b hc, ↓c_r1b hc, ↓c_r2b hc, ↓c_r3b hc, ↓c_r4b hc, ↓cb_W J, ↓cb_R J, ↓cb_H J, ↓cb_U J, ↓cb_L J, ↓hb_shows J, ↓hb_menIn J, ↓hb_menShown J, ↓hb_isBroken J, ↓hb_bits]
      · simp (disch := omega) only [↓reduceIte, Bool.false_eq_true, nrm_i, ltT, ltF, leT, leF, eqT, eqF, not_true_eq_false, not_false_eq_true, and_self, and_true, true_and, false_and, and_false, or_true, true_or, or_false, false_or, ↓btS, ↓bnS, ↓bdS, ↓jnS, ↓obS, n_W hX hW, n_R hW, n_H hX hW, n_U hW, n_L hW, n_B hW, n_S hW, n_M hX, n_Ms hX, n_P, ↓i_t, ↓i_f, ↓man_t I, ↓man_f I, ↓room_t I, ↓room_f I, ↓mir_t I, ↓mir_f I, ↓pas_t I, ↓pas_f I, ↓h_men I, ↓h_rooms I, ↓h_mirrors I, ↓o_rcv hO, ↓o_gI hO, ↓o_g3 hO, ↓o_g7 hO, ↓o_g8 hO, ↓o_g12 hO, ↓c_ob hc, ↓cb_mi J, ↓c_g0b hc, ↓c_g1b hc, ↓c_g2b hc, ↓c_g3b hc, ↓c_g4b hc, ↓c_r0b hc, ↓c_r1b hc, ↓c_r2b hc, ↓c_r3b hc, ↓c_r4b hc, ↓cb_W J, ↓cb_R J, ↓cb_H J, ↓cb_U J, ↓cb_L J, ↓hb_shows J, ↓hb_menIn J, ↓hb_menShown J, ↓hb_isBroken J, ↓hb_bits]
    · simp (disch := omega) only [↓reduceIte, Bool.false_eq_true, nrm_i, ltT, ltF, leT, leF, eqT, eqF, not_true_eq_false, not_false_eq_true, and_self, and_true, true_and, false_and, and_false, or_true, true_or, or_false, false_or, ↓btS, ↓bnS, ↓bdS, ↓jnS, ↓obS, n_W hX hW, n_R hW, n_H hX hW, n_U hW, n_L hW, n_B hW, n_S hW, n_M hX, n_Ms hX, n_P, ↓i_t, ↓i_f, ↓man_t I, ↓man_f I, ↓room_t I, ↓room_f I, ↓mir_t I, ↓mir_f I, ↓pas_t I, ↓pas_f I, ↓h_men I, ↓h_rooms I, ↓h_mirrors I, ↓o_rcv hO, ↓o_gI hO, ↓o_g3 hO, ↓o_g7 hO, ↓o_g8 hO, ↓o_g12 hO, ↓c_ob hc, ↓cb_mi J, ↓c_g0b hc, ↓c_g1b hc, ↓c_g2b hc, ↓c_g3b hc, ↓c_g4b hc, ↓c_r0b hc, ↓c_r1b hc, ↓c_r2b hc, ↓c_r3b hc, ↓c_r4b hc, ↓cb_W J, ↓cb_R J, ↓cb_H J, ↓cb_U J, ↓cb_L J, ↓hb_shows J, ↓hb_menIn J, ↓hb_menShown J, ↓hb_isBroken J, ↓hb_bits]
end
