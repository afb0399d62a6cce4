set_option maxRecDepth 100000
set_option maxHeartbeats 1000000
/-! ===== PURE: the component counts, is fed ===== -/
def bset (P : Nat → Bool) (n : Nat) : Nat := itr (fun i a => if P i = true then a ||| 2 ^ i else a) n 0
theorem bset_lt (P : Nat → Bool) : ∀ n : Nat, bset P n < 2 ^ n := by
  intro n
  induction n with
  | zero => exact Nat.lt_succ_self 0
  | succ n ih =>
    show (if P n = true then bset P n ||| 2 ^ n else bset P n) < 2 ^ (n + 1)
    have h1 : bset P n < 2 ^ (n + 1) := Nat.lt_trans ih (Nat.pow_lt_pow_right (by decide) (Nat.lt_succ_self n))
    split
    · exact Nat.or_lt_two_pow h1 (Nat.pow_lt_pow_right (by decide) (Nat.lt_succ_self n))
    · exact h1
def wlS (M : Mst) : Int → Prop := fun k => kU (mK M) k (kMi (mK M)) = 1
def v_count (M : Mst) (x : Int) : Int :=
  if x = 0 then xR (mX M) else if x = 1 then xD (mX M) else if x = 2 then xM (mX M) else if x = 3 then xK (mX M) else if x = 4 then kMi (mK M)
  else if x = 5 then (bset (fun k => decide (¬ kB (mK M) k = 300)) (xK (mX M)).toNat : Int) else if x = 6 then (bset (fun k => decide (kU (mK M) k (kMi (mK M)) = 1)) (xK (mX M)).toNat : Int)
  else if x = 7 then mTn M else if x = 8 then ((mU M).length : Int) else if x = 9 then (mT M).1 else if x = 10 then mHd M 0 + mHd M 1 + mHd M 2 else -1
def byI (v k : Int) : Int := i8I (i8I (srI v k))
def tpb (p : Int × (Int → Int)) (v k : Int) : Int × (Int → Int) := (p.1 + 1, fu p.2 p.1 (byI v k))
def tpt (p : Int × (Int → Int)) (v : Int) : Int × (Int → Int) := tpb (tpb (tpb (tpb p v 24) v 16) v 8) v 0
abbrev g_feed (M : Mst) : Prop := mTn M + 20 ≤ 2000
def v_feed (M : Mst) : Int := if g_feed M then mTn M + 20 else -1
def a_feed (M : Mst) (a b c d e : Int) : Mst := if g_feed M then (M.1, M.2.1, M.2.2.1, tpt (tpt (tpt (tpt (tpt (mTn M, mTp M) a) b) c) d) e, M.2.2.2.2) else M
section
variable {Z : Nat → Prop} {σ σ' τ : Hp} {o r : Nat} {X : Txt} {K : Crt} {M : Mst} {β : Type}
theorem cnt5 (I : QI Z σ o r X K) (f : Hp → Int → Option (Int × Hp)) : f_X0_count_L93 o FU σ 0 0 f = f σ (bset (fun k => decide (¬ kB K k = 300)) (xK X).toNat : Nat) := by
  obtain ⟨hO, hx, hZ, hK, hX, hW⟩ := I
  have I : QI Z σ o r X K := ⟨hO, hx, hZ, hK, hX, hW⟩
  have J := I.ci
  have hc := hO.court
  have a0 := hX.1
  have a1 := hX.2.2.1
  have a4 := hX.2.2.2.1
  have a2 := hW.1
  have key := loopI (fun n (a : Nat) i => f_X0_count_L93 o n σ (a : Int) i f) (fun a => f σ (a : Int)) (fun i a => if (decide (¬ kB K i = 300)) = true then a ||| 2 ^ i else a) (fun _ a => a < 256) (xK X).toNat 0 (fl := FU) (by show _ < 20000; omega) (a0 := 0) (by decide) (fun n i a hi ha => ?_) (fun n a ha => ?_)
  · exact key.1
  · have hs := hW.2.2.2 (i : Int) (by omega) (by omega)
    have i31 : i < 31 := by omega
    have p0 : (2 : Nat) ^ i ≤ 2 ^ 7 := Nat.pow_le_pow_right (by decide) (by omega)
    rw [Int.zero_add]
    refine ⟨?_, ?_⟩
    · rw [f_X0_count_L93]
      by_cases c : kB K i = 300
      · rw [if_neg (by simp [c])]
        simp (disch := omega) only [↓reduceIte, Bool.false_eq_true, nrm_i, ltT, ltF, leT, leF, eqT, eqF, not_true_eq_false, not_false_eq_true, and_self, and_true, true_and, false_and, and_false, or_true, true_or, or_false, false_or, ↓btS, ↓bnS, ↓bdS, ↓jnS, ↓obS, ↓o_rcv hO, ↓h_mirrors I, ↓o_g7 hO, ↓cb_mi J, ↓c_ob hc, ↓hb_isBroken J, if_neg (show ¬ kB K i ≤ kMi K by omega)]
        rw [show (0 : Int) = ((0 : Nat) : Int) from rfl, orI_nat a 0 (by omega) (by decide), Nat.or_zero]
      · rw [if_pos (by simp [c])]
        simp (disch := omega) only [↓reduceIte, Bool.false_eq_true, nrm_i, ltT, ltF, leT, leF, eqT, eqF, not_true_eq_false, not_false_eq_true, and_self, and_true, true_and, false_and, and_false, or_true, true_or, or_false, false_or, ↓btS, ↓bnS, ↓bdS, ↓jnS, ↓obS, ↓o_rcv hO, ↓h_mirrors I, ↓o_g7 hO, ↓cb_mi J, ↓c_ob hc, ↓hb_isBroken J, if_pos (show kB K i ≤ kMi K by omega)]
        rw [slI_1 i i31, orI_nat a (2 ^ i) (by omega) (by omega)]
    · split
      · exact Nat.or_lt_two_pow (n := 8) ha (by omega)
      · exact ha
  · show f_X0_count_L93 o (n + 1) σ a _ f = _
    rw [f_X0_count_L93, Int.zero_add, show (((xK X).toNat : Nat) : Int) = xK X by omega]
    simp (disch := omega) only [↓reduceIte, Bool.false_eq_true, nrm_i, ltT, ltF, leT, leF, eqT, eqF, not_true_eq_false, not_false_eq_true, and_self, and_true, true_and, false_and, and_false, or_true, true_or, or_false, false_or, ↓btS, ↓bnS, ↓bdS, ↓jnS, ↓obS, ↓o_rcv hO, ↓h_mirrors I]
theorem cnt6 (I : QI Z σ o r X K) (f : Hp → Int → Option (Int × Hp)) : f_X0_count_L139 o FU σ 0 0 f = f σ (bset (fun k => decide (kU K k (kMi K) = 1)) (xK X).toNat : Nat) := by
  obtain ⟨hO, hx, hZ, hK, hX, hW⟩ := I
  have I : QI Z σ o r X K := ⟨hO, hx, hZ, hK, hX, hW⟩
  have J := I.ci
  have hc := hO.court
  have a0 := hX.1
  have a1 := hX.2.2.1
  have a4 := hX.2.2.2.1
  have a2 := hW.1
  have key := loopI (fun n (a : Nat) i => f_X0_count_L139 o n σ (a : Int) i f) (fun a => f σ (a : Int)) (fun i a => if (decide (kU K i (kMi K) = 1)) = true then a ||| 2 ^ i else a) (fun _ a => a < 256) (xK X).toNat 0 (fl := FU) (by show _ < 20000; omega) (a0 := 0) (by decide) (fun n i a hi ha => ?_) (fun n a ha => ?_)
  · exact key.1
  · have hs := (hW.2.2.1 (i : Int) (kMi K) (by omega) (by omega) a2.1 (Int.le_refl _)).2.1
    have i31 : i < 31 := by omega
    have p0 : (2 : Nat) ^ i ≤ 2 ^ 7 := Nat.pow_le_pow_right (by decide) (by omega)
    rw [Int.zero_add]
    refine ⟨?_, ?_⟩
    · rw [f_X0_count_L139]
      by_cases c : kU K i (kMi K) = 1
      · rw [if_pos (by simp [c])]
        simp (disch := omega) only [↓reduceIte, Bool.false_eq_true, nrm_i, ltT, ltF, leT, leF, eqT, eqF, not_true_eq_false, not_false_eq_true, and_self, and_true, true_and, false_and, and_false, or_true, true_or, or_false, false_or, ↓btS, ↓bnS, ↓bdS, ↓jnS, ↓obS, ↓o_rcv hO, ↓h_mirrors I, ↓o_g7 hO, ↓cb_mi J, ↓c_g3b hc, ↓c_r3b hc, ↓cb_U J]
        rw [slI_1 i i31, orI_nat a (2 ^ i) (by omega) (by omega)]
      · rw [if_neg (by simp [c])]
        simp (disch := omega) only [↓reduceIte, Bool.false_eq_true, nrm_i, ltT, ltF, leT, leF, eqT, eqF, not_true_eq_false, not_false_eq_true, and_self, and_true, true_and, false_and, and_false, or_true, true_or, or_false, false_or, ↓btS, ↓bnS, ↓bdS, ↓jnS, ↓obS, ↓o_rcv hO, ↓h_mirrors I, ↓o_g7 hO, ↓cb_mi J, ↓c_g3b hc, ↓c_r3b hc, ↓cb_U J]
        rw [show (0 : Int) = ((0 : Nat) : Int) from rfl, orI_nat a 0 (by omega) (by decide), Nat.or_zero]
    · split
      · exact Nat.or_lt_two_pow (n := 8) ha (by omega)
      · exact ha
  · show f_X0_count_L139 o (n + 1) σ a _ f = _
    rw [f_X0_count_L139, Int.zero_add, show (((xK X).toNat : Nat) : Int) = xK X by omega]
    simp (disch := omega) only [↓reduceIte, Bool.false_eq_true, nrm_i, ltT, ltF, leT, leF, eqT, eqF, not_true_eq_false, not_false_eq_true, and_self, and_true, true_and, false_and, and_false, or_true, true_or, or_false, false_or, ↓btS, ↓bnS, ↓bdS, ↓jnS, ↓obS, ↓o_rcv hO, ↓h_mirrors I]
theorem h_count (C : CInv Z σ o r M) (hM : WfM M) {x : Int} (wx : wd x) : f_X0_count σ o x = some (v_count M x, σ) := by
  obtain ⟨I, ⟨p, u1, u2, u3, u4⟩, S, T, P, L⟩ := C
  have hO := I.1
  have hX := I.2.2.2.2.1
  have hW := I.2.2.2.2.2
  have J := I.ci
  have wx1 := wx.1
  have wx2 := wx.2
  have ho : ∀ P : Nat → Bool, nrm (bset P (xK (mX M)).toNat : Nat) = (bset P (xK (mX M)).toNat : Nat) := fun P => by
    have h1 := bset_lt P (xK (mX M)).toNat
    have h2 : 2 ^ (xK (mX M)).toNat ≤ 2 ^ 8 := Nat.pow_le_pow_right (by decide) (by have := hX.2.2.2.1; omega)
    exact nrm_i (by omega) (by omega)
  have hd : gI σ 4 (some r) 3 = some (xD (mX M)) := by
    obtain ⟨-, g, b1, b2, b3, e1, e2, e3, h1, -, h3, -⟩ := I.2.1
    rw [gI_s h1, h3.1]
  unfold f_X0_count v_count
  rw [nrm_i wx1 wx2]
  by_cases c0 : x = 0
  · rw [if_pos c0, if_pos c0, o_rcv hO, h_rooms I]
  rw [if_neg c0, if_neg c0]
  by_cases c1 : x = 1
  · rw [if_pos c1, if_pos c1, o_g3 hO, obP hd]
  rw [if_neg c1, if_neg c1]
  by_cases c2 : x = 2
  · rw [if_pos c2, if_pos c2, o_rcv hO, h_men I]
  rw [if_neg c2, if_neg c2]
  by_cases c3 : x = 3
  · rw [if_pos c3, if_pos c3, o_rcv hO, h_mirrors I]
  rw [if_neg c3, if_neg c3]
  by_cases c4 : x = 4
  · rw [if_pos c4, if_pos c4, o_g7 hO, cb_mi J]
  rw [if_neg c4, if_neg c4]
  by_cases c5 : x = 5
  · rw [if_pos c5, if_pos c5, cnt5 I, ho]
  rw [if_neg c5, if_neg c5]
  by_cases c6 : x = 6
  · rw [if_pos c6, if_pos c6, cnt6 I, ho]
  rw [if_neg c6, if_neg c6]
  by_cases c7 : x = 7
  · rw [if_pos c7, if_pos c7, o_g1 hO, o_a2 hO, P.1]
  rw [if_neg c7, if_neg c7]
  by_cases c8 : x = 8
  · rw [if_pos c8, if_pos c8, o_gI hO, u3]
  rw [if_neg c8, if_neg c8]
  by_cases c9 : x = 9
  · rw [if_pos c9, if_pos c9, o_gI hO, T.1]
  rw [if_neg c9, if_neg c9]
  by_cases c10 : x = 10
  · rw [if_pos c10, if_pos c10]
    have s0 := (S 0 (by decide) (by decide)).1
    have s1 := (S 1 (by decide) (by decide)).1
    have s2 := (S 2 (by decide) (by decide)).1
    have d0 := (hM.2.2.2.1 0 (by decide) (by decide)).1
    have d1 := (hM.2.2.2.1 1 (by decide) (by decide)).1
    have d2 := (hM.2.2.2.1 2 (by decide) (by decide)).1
    rw [o_g11 hO, o_a251 hO (by decide) (by decide), s0]
    rcases d0 with d0 | d0 <;> rcases d1 with d1 | d1 <;> rcases d2 with d2 | d2 <;> rw [d0, d1, d2] <;> simp only [jnS, ↓reduceIte, o_g11 hO, o_a251 hO (i := 1) (by decide) (by decide), o_a251 hO (i := 2) (by decide) (by decide), s1, s2, d1, d2, show nrm 0 = 0 by decide, show nrm 1 = 1 by decide, show ¬ (1 : Int) = 0 by decide] <;> rfl
  rw [if_neg c10, if_neg c10]
theorem h_typed (hO : Osh σ o r) {p : Int × (Int → Int)} (P : TpC σ o p.1 p.2) (h0 : 0 ≤ p.1) (h1 : p.1 + 4 ≤ 2000) (v : Int) : ∃ σ' : Hp, f_X0_typed σ o v = some ((), σ') ∧ TpC σ' o (tpt p v).1 (tpt p v).2 ∧ chgH (fun x => x = o + 2 ∨ x = o + 4) σ σ' := by
  have step : ∀ (n : Nat) (τ : Hp) (q : Int × (Int → Int)) (k : Int) (c : Hp → Option (Unit × Hp)), Osh τ o r → TpC τ o q.1 q.2 → 0 ≤ q.1 → q.1 < 2000 → 0 ≤ k → k ≤ 24 → ∃ τ' : Hp, f_X0_typed_L3 o (n + 1) τ v k c = f_X0_typed_L3 o n τ' v (k + (-8)) c ∧ TpC τ' o (tpb q v k).1 (tpb q v k).2 ∧ chgH (fun x => x = o + 2 ∨ x = o + 4) τ τ' := by
    intro n τ q k c O Q q0 q1 k0 k1
    have w1 := (chgH.rf (fun x => x = o + 2 ∨ x = o + 4) τ).wr (a := o + 4) (Or.inr rfl) q.1 (byI v k)
    have w2 := w1.wr (a := o + 2) (Or.inl rfl) 2 (q.1 + 1)
    have O1 := O.chg w1
    obtain ⟨g, hg⟩ := o_s4 O
    obtain ⟨g2, hg2, -⟩ := o_s2 O1
    have e1 : ci (wr τ (o + 4) q.1 (byI v k)) (o + 2) = ci τ (o + 2) := wr_cne _ _ _ (by omega)
    refine ⟨_, ?_, ⟨?_, fun i i0 i1 => ?_⟩, w2⟩
    · rw [f_X0_typed_L3, nrm_i (by omega) (by omega), if_neg (by omega), o_g1 O, o_t2 O, o_g1 O, o_a2 O, Q.1, show i8I (i8I (srI v k)) = byI v k from rfl, o_w4 O _ q0 q1, o_g1 O1, o_a2 O1, e1, Q.1, nrm_i (z := q.1 + 1) (by omega) (by omega), o_w2 O1]
    · rw [wr_ci (h := hg2), fuE]; rfl
    · have i1 : i < q.1 + 1 := i1
      show _ = fu q.2 q.1 (byI v k) i
      rw [wr_cne _ _ _ (by omega), wr_ci (h := hg)]
      by_cases ei : i = q.1
      · rw [ei, fuE, fuE]
      · rw [fuN _ _ ei, fuN _ _ ei]
        exact Q.2 i i0 (by omega)
  unfold f_X0_typed
  show ∃ σ' : Hp, f_X0_typed_L3 o (19995 + 1 + 1 + 1 + 1 + 1) σ v 24 _ = _ ∧ _
  obtain ⟨σ1, e1, P1, c1⟩ := step (19995 + 1 + 1 + 1 + 1) σ p 24 (fun s10 => some ((), s10)) hO P h0 (by omega) (by decide) (by decide)
  obtain ⟨σ2, e2, P2, c2⟩ := step (19995 + 1 + 1 + 1) σ1 _ (24 + (-8)) (fun s10 => some ((), s10)) (hO.chg c1) P1 (by show 0 ≤ p.1 + 1; omega) (by show p.1 + 1 < 2000; omega) (by decide) (by decide)
  obtain ⟨σ3, e3, P3, c3⟩ := step (19995 + 1 + 1) σ2 _ (24 + (-8) + (-8)) (fun s10 => some ((), s10)) (hO.chg (c1.tr c2)) P2 (by show 0 ≤ p.1 + 1 + 1; omega) (by show p.1 + 1 + 1 < 2000; omega) (by decide) (by decide)
  obtain ⟨σ4, e4, P4, c4⟩ := step (19995 + 1) σ3 _ (24 + (-8) + (-8) + (-8)) (fun s10 => some ((), s10)) (hO.chg ((c1.tr c2).tr c3)) P3 (by show 0 ≤ p.1 + 1 + 1 + 1; omega) (by show p.1 + 1 + 1 + 1 < 2000; omega) (by decide) (by decide)
  refine ⟨σ4, ?_, P4, ((c1.tr c2).tr c3).tr c4⟩
  rw [e1, e2, e3, e4, f_X0_typed_L3, if_pos (by decide)]
theorem h_feed (C : CInv Z σ o r M) (hM : WfM M) (a b c d e : Int) : ∃ σ' : Hp, f_X0_feed σ o a b c d e = some (v_feed M, σ') ∧ CInv Z σ' o r (a_feed M a b c d e) ∧ chgH (stS o) σ σ' := by
  obtain ⟨I, U, S, T, P, L⟩ := C
  have C : CInv Z σ o r M := ⟨I, U, S, T, P, L⟩
  have hO := I.1
  have hX := I.2.2.2.2.1
  have hn := hM.2.2.2.2.2.1.1
  unfold f_X0_feed v_feed a_feed
  by_cases G : g_feed M
  · rw [if_pos G, if_pos G]
    have G1 : mTn M + 20 ≤ 2000 := G
    obtain ⟨σ1, e1, P1, c1⟩ := h_typed hO (p := (mTn M, mTp M)) P hn.1 (by show mTn M + 4 ≤ 2000; omega) a
    have k1 := c1
    have O1 := hO.chg k1
    obtain ⟨σ2, e2, P2, c2⟩ := h_typed O1 P1 (by show 0 ≤ mTn M + 1 + 1 + 1 + 1; omega) (by show mTn M + 1 + 1 + 1 + 1 + 4 ≤ 2000; omega) b
    have k2 := k1.tr c2
    have O2 := hO.chg k2
    obtain ⟨σ3, e3, P3, c3⟩ := h_typed O2 P2 (by show 0 ≤ mTn M + 1 + 1 + 1 + 1 + 1 + 1 + 1 + 1; omega) (by show mTn M + 1 + 1 + 1 + 1 + 1 + 1 + 1 + 1 + 4 ≤ 2000; omega) c
    have k3 := k2.tr c3
    have O3 := hO.chg k3
    obtain ⟨σ4, e4, P4, c4⟩ := h_typed O3 P3 (by show 0 ≤ mTn M + 1 + 1 + 1 + 1 + 1 + 1 + 1 + 1 + 1 + 1 + 1 + 1; omega) (by show mTn M + 1 + 1 + 1 + 1 + 1 + 1 + 1 + 1 + 1 + 1 + 1 + 1 + 4 ≤ 2000; omega) d
    have k4 := k3.tr c4
    have O4 := hO.chg k4
    obtain ⟨σ5, e5, P5, c5⟩ := h_typed O4 P4 (by show 0 ≤ mTn M + 1 + 1 + 1 + 1 + 1 + 1 + 1 + 1 + 1 + 1 + 1 + 1 + 1 + 1 + 1 + 1; omega) (by show mTn M + 1 + 1 + 1 + 1 + 1 + 1 + 1 + 1 + 1 + 1 + 1 + 1 + 1 + 1 + 1 + 1 + 4 ≤ 2000; omega) e
    have k5 := k4.tr c5
    have O5 := hO.chg k5
    have hst : ∀ y, (y = o + 2 ∨ y = o + 4) → stS o y := fun y h => by unfold stS; omega
    have eo : ci σ5 o = ci σ o := k5.num (by omega)
    have en : ci σ5 (o + 2) 2 = mTn M + 20 := by
      rw [P5.1]
      show mTn M + 1 + 1 + 1 + 1 + 1 + 1 + 1 + 1 + 1 + 1 + 1 + 1 + 1 + 1 + 1 + 1 + 1 + 1 + 1 + 1 = _
      omega
    refine ⟨σ5, ?_, ⟨I.st2 k5 hst (fun y h => by unfold crtS; omega), U.fr k5 (fun y h => by omega) (by rw [eo]) (by rw [eo]) hX _, S.fr k5 (fun y h => by omega) hX, T.fr k5 (fun y h => by omega) (by rw [eo]), P5, by rw [eo]; exact L⟩, k5.up hst⟩
    rw [o_g1 hO, o_a2 hO, P.1, nrm_i (z := mTn M + 20) (by omega) (by omega), nrm_i (z := 2000) (by decide) (by decide), if_pos G1, o_rcv hO, bnP e1, o_rcv O1, bnP e2, o_rcv O2, bnP e3, o_rcv O3, bnP e4, o_rcv O4, bnP e5, o_g1 O5, o_a2 O5, en]
  · rw [if_neg G, if_neg G]
    refine ⟨σ, ?_, C, chgH.rf _ _⟩
    rw [o_g1 hO, o_a2 hO, P.1, nrm_i (z := mTn M + 20) (by omega) (by omega), nrm_i (z := 2000) (by decide) (by decide), if_neg G]
end
