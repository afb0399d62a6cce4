set_option maxRecDepth 100000
set_option maxHeartbeats 4000000
/-! ===== PURE: where two rest ===== -/
def ntI (x a b : Nat) : Int := anI (x : Int) (xoI (orI (slI 1 (a : Int)) (slI 1 (b : Int))) (-1))
theorem nt_ok : ∀ a : Nat, a < 6 → ∀ b : Nat, b < 6 → ∀ x : Nat, x < 64 → 0 ≤ ntI x a b ∧ ntI x a b < 64 := by decide +kernel
theorem ot_ok : ∀ M : Nat, M < 7 → ∀ a : Nat, a < 6 → ∀ b : Nat, b < 6 → ∀ x : Nat, x < 2 ^ M → anI (x : Int) (anI (anI ((slI 1 (M : Int)) - 1) (xoI (slI 1 (a : Int)) (-1))) (xoI (slI 1 (b : Int)) (-1))) = ntI x a b := by decide +kernel
theorem mFr_lt2 {X : Txt} (hX : WfX X) (K : Crt) (r t : Int) : mFr X K r t < 2 ^ (xM X).toNat := by
  have h1 : ∀ k u : Int, mSh X K k u < 2 ^ (xM X).toNat := by
    intro k u
    unfold mSh
    split
    · exact ms_lt _ _
    · exact Nat.two_pow_pos _
  have : ∀ n : Nat, itr (mfG X K r t) n 0 < 2 ^ (xM X).toNat := by
    intro n
    induction n with
    | zero => exact Nat.two_pow_pos _
    | succ n ih =>
      show mfG X K r t n (itr (mfG X K r t) n 0) < _
      unfold mfG
      split
      · exact Nat.or_lt_two_pow ih (h1 _ _)
      · exact ih
  exact this _
/-- what one has who stands in a room, the other one in c -/
def hsF (X : Txt) (K : Crt) (x y : Int) (r c : Int) : Int := pcn (ntI (mFr X K r (kMi K)) x.toNat y.toNat).toNat - if r = c then 2 else 0
theorem hsF_in (X : Txt) (K : Crt) (x y r c : Int) : -2 ≤ hsF X K x y r c ∧ hsF X K x y r c ≤ 8 := by
  have := pcn_in (ntI (mFr X K r (kMi K)) x.toNat y.toNat).toNat
  unfold hsF
  split <;> omega
def rsB (X : Txt) (K : Crt) (x y : Int) (a b : Int) : Bool := !anyN (fun k => decide (hsF X K x y a b < hsF X K x y k b ∨ hsF X K x y b a < hsF X K x y k a)) (xR X).toNat
def rsI (X : Txt) (K : Crt) (x y i : Int) (a : Nat) (b : Nat) (n : Int) : Int ⊕ Int := if rsB X K x y a b = true then (if n = i then .inr (10 * (a : Int) + b) else .inl (n + 1)) else .inl n
def rsO (X : Txt) (K : Crt) (x y i : Int) (a : Nat) (n : Int) : Int ⊕ Int := itE (rsI X K x y i a) 0 (xR X).toNat n
def q_rests (X : Txt) (K : Crt) (x y i : Int) : Int := if (0 ≤ x ∧ x < xM X) ∧ (0 ≤ y ∧ y < xM X) ∧ ¬ x = y ∧ -1 ≤ i then (match itE (rsO X K x y i) 0 (xR X).toNat 0 with | .inl n => if i = -1 then n else -1 | .inr v => v) else -1
theorem ite_f {α γ : Type} (g : Nat → α → α ⊕ γ) (P : Nat → α → Prop) (N : Nat) (h : ∀ i a a', i < N → P i a → g i a = .inl a' → P (i + 1) a') : ∀ (j i : Nat) (a a' : α), i + j = N → P i a → itE g i j a = .inl a' → P N a' := by
  intro j
  induction j with
  | zero => intro i a a' hi hP e; cases e; have : i = N := by omega
            subst this; exact hP
  | succ j ih =>
    intro i a a' hi hP e
    rw [itE] at e
    cases hg : g i a with
    | inl b => rw [hg] at e; exact ih (i + 1) b a' (by omega) (h i a b (by omega) hP hg) e
    | inr v => rw [hg] at e; cases e
section
variable {Z : Nat → Prop} {σ : Hp} {o r : Nat} {X : Txt} {K : Crt} {β : Type}
theorem hb_has (I : QI Z σ o r X K) {x y a c fl : Int} (x0 : 0 ≤ x) (x1 : x < xM X) (y0 : 0 ≤ y) (y1 : y < xM X) (wa : wd a) (hf : (a = c ∧ fl = 1) ∨ (¬ a = c ∧ fl = 0)) (f : Int → Hp → Option β) : bn (f_X0_has σ o a (anI (anI ((slI 1 (xM X)) - 1) (xoI (slI 1 x) (-1))) (xoI (slI 1 y) (-1))) fl) f = f (hsF X K x y a c) σ := by
  obtain ⟨hO, hx, hZ, hK, hX, hW⟩ := I
  have I : QI Z σ o r X K := ⟨hO, hx, hZ, hK, hX, hW⟩
  have J := I.ci
  have hc := hO.court
  have a0 := hX.1
  have a1 := hX.2.2.1
  have a4 := hX.2.2.2.1
  have a2 := hW.1
  refine bnP ?_ f
  have e := ot_ok (xM X).toNat (by omega) x.toNat (by omega) y.toNat (by omega) _ (mFr_lt2 hX K a (kMi K))
  rw [show (((xM X).toNat : Nat) : Int) = xM X by omega, show ((x.toNat : Nat) : Int) = x by omega, show ((y.toNat : Nat) : Int) = y by omega] at e
  have e2 := nt_ok x.toNat (by omega) y.toNat (by omega) _ (mFr_lt hX K a (kMi K))
  have hp := pcn_in (ntI (mFr X K a (kMi K)) x.toNat y.toNat).toNat
  have e3 : ∀ {β : Type} (f : Int → Hp → Option β), bn (f_J8_bitCount σ (ntI (mFr X K a (kMi K)) x.toNat y.toNat)) f = f (pcn (ntI (mFr X K a (kMi K)) x.toNat y.toNat).toNat) σ := by
    intro β f
    have := hb_bits (σ := σ) (x := (ntI (mFr X K a (kMi K)) x.toNat y.toNat).toNat) (by omega) f
    rw [show (((ntI (mFr X K a (kMi K)) x.toNat y.toNat).toNat : Nat) : Int) = ntI (mFr X K a (kMi K)) x.toNat y.toNat by omega] at this
    exact this
  unfold f_X0_has hsF
  rw [o_g7 hO, cb_mi J, o_rcv hO, hb_menFrom I wa a2.1 (Int.le_refl _), e, e3]
  rcases hf with ⟨h1, h2⟩ | ⟨h1, h2⟩
  · rw [h2, if_neg (by decide), if_pos h1, nrm_i (by omega) (by omega)]
  · rw [h2, if_pos (by decide), if_neg h1, nrm_i (by omega) (by omega)]
theorem hb_isRest (I : QI Z σ o r X K) {x y a b : Int} (x0 : 0 ≤ x) (x1 : x < xM X) (y0 : 0 ≤ y) (y1 : y < xM X) (ha : 0 ≤ a ∧ a < xR X) (hb : 0 ≤ b ∧ b < xR X) (f : Int → Hp → Option β) : bn (f_X0_isRest σ o a b (anI (anI ((slI 1 (xM X)) - 1) (xoI (slI 1 x) (-1))) (xoI (slI 1 y) (-1)))) f = f (if rsB X K x y a b = true then 1 else 0) σ := by
  obtain ⟨hO, hx, hZ, hK, hX, hW⟩ := I
  have I : QI Z σ o r X K := ⟨hO, hx, hZ, hK, hX, hW⟩
  have J := I.ci
  have hc := hO.court
  have a0 := hX.1
  have a1 := hX.2.2.1
  have a4 := hX.2.2.2.1
  have a2 := hW.1
  refine bnP ?_ f
  have hs : ∀ {c d fl : Int}, 0 ≤ c → c < xR X → ((c = d ∧ fl = 1) ∨ (¬ c = d ∧ fl = 0)) → ∀ {β : Type} (f : Int → Hp → Option β), bn (f_X0_has σ o c (anI (anI ((slI 1 (xM X)) - 1) (xoI (slI 1 x) (-1))) (xoI (slI 1 y) (-1))) fl) f = f (hsF X K x y c d) σ := fun h1 h2 h3 _ f => hb_has I x0 x1 y0 y1 (by omega) h3 f
  generalize anI (anI ((slI 1 (xM X)) - 1) (xoI (slI 1 x) (-1))) (xoI (slI 1 y) (-1)) = w at *
  have lp : f_X0_isRest_L39 o FU σ a b w (hsF X K x y a b) (hsF X K x y b a) 0 (fun s25 => some (1, s25)) = some (if rsB X K x y a b = true then 1 else 0, σ) := by
    have e := loopF (fun n i => f_X0_isRest_L39 o n σ a b w (hsF X K x y a b) (hsF X K x y b a) i (fun s25 => some (1, s25))) (some (1, σ)) (fun _ => some (0, σ)) (fun k => decide (hsF X K x y a b < hsF X K x y k b ∨ hsF X K x y b a < hsF X K x y k a)) (xR X).toNat 0 (fl := FU) (by rw [FU_eq]; omega) (fun n i hi => by
        have h1 := hsF_in X K x y a b
        have h2 := hsF_in X K x y b a
        have h3 := hsF_in X K x y i b
        have h4 := hsF_in X K x y i a
        have p1 : ∀ {fl : Int}, (((i : Int) = b ∧ fl = 1) ∨ (¬ (i : Int) = b ∧ fl = 0)) → ∀ {β : Type} (f : Int → Hp → Option β), bn (f_X0_has σ o i w fl) f = f (hsF X K x y i b) σ := fun h _ f => hs (by omega) (by omega) h f
        have p2 : ∀ {fl : Int}, (((i : Int) = a ∧ fl = 1) ∨ (¬ (i : Int) = a ∧ fl = 0)) → ∀ {β : Type} (f : Int → Hp → Option β), bn (f_X0_has σ o i w fl) f = f (hsF X K x y i a) σ := fun h _ f => hs (by omega) (by omega) h f
        have tl : ∀ F : Int → Int, (∀ fl : Int, F fl = fl) → True := fun _ _ => trivial
        rw [f_X0_isRest_L39, Int.zero_add, o_rcv hO, h_rooms I, nrm_i (by omega) (by omega), nrm_i (by omega) (by omega), if_neg (by omega), jnS]
        have q1 : ∀ {β : Type} (u : Int → Option β), (if ¬ (i : Int) = nrm b then u 0 else u 1) = u (if (i : Int) = b then 1 else 0) := by
          intro β u
          rw [nrm_i (by omega) (by omega)]
          by_cases h : (i : Int) = b
          · rw [if_neg (fun g => g h), if_pos h]
          · rw [if_pos h, if_neg h]
        have q2 : ∀ {β : Type} (u : Int → Option β), (if ¬ (i : Int) = nrm a then u 0 else u 1) = u (if (i : Int) = a then 1 else 0) := by
          intro β u
          rw [nrm_i (by omega) (by omega)]
          by_cases h : (i : Int) = a
          · rw [if_neg (fun g => g h), if_pos h]
          · rw [if_pos h, if_neg h]
        refine (q1 (fun fl => (rcv σ 0 (some o)).bind fun b15 => bn (f_X0_has σ b15 i w fl) fun v13 s14 => (if nrm (hsF X K x y a b) < nrm v13 then (some (0, s14)) else (jn (fun (s16 : Hp) (x1 : Int) (x2 : Int) (x3 : Int) (x4 : Int) (x5 : Int) (x6 : Int) (y1 : Int) (y2 : Int) (y3 : Int) => (rcv s16 0 (some o)).bind fun b19 => bn (f_X0_has s16 b19 y1 y2 y3) fun v17 s18 => (if nrm v17 ≤ nrm x5 then (f_X0_isRest_L39 o n s18 x1 x2 x3 x4 x5 (x6 + 1) (fun s25 => some (1, s25))) else (some (0, s18)))) fun j86 => (if ¬ nrm (i : Int) = nrm a then (j86 s14 a b w (hsF X K x y a b) (hsF X K x y b a) i i w 0) else (j86 s14 a b w (hsF X K x y a b) (hsF X K x y b a) i i w 1)))))).trans ?_
        try dsimp only
        rw [o_rcv hO, p1 (by split <;> omega), nrm_i (z := hsF X K x y a b) (by omega) (by omega), nrm_i (z := hsF X K x y i b) (by omega) (by omega), jnS]
        by_cases d1 : hsF X K x y a b < hsF X K x y i b
        · rw [if_pos d1, if_pos (by simp [d1])]
        · rw [if_neg d1, nrm_i (z := (i : Int)) (by omega) (by omega)]
          refine (q2 (fun fl => (rcv σ 0 (some o)).bind fun b19 => bn (f_X0_has σ b19 i w fl) fun v17 s18 => (if nrm v17 ≤ nrm (hsF X K x y b a) then (f_X0_isRest_L39 o n s18 a b w (hsF X K x y a b) (hsF X K x y b a) ((i : Int) + 1) (fun s25 => some (1, s25))) else (some (0, s18))))).trans ?_
          try dsimp only
          rw [o_rcv hO, p2 (by split <;> omega), nrm_i (z := hsF X K x y i a) (by omega) (by omega), nrm_i (z := hsF X K x y b a) (by omega) (by omega)]
          by_cases d2 : hsF X K x y b a < hsF X K x y i a
          · rw [if_neg (by omega), if_pos (by simp [d2])]
          · rw [if_pos (by omega), if_neg (by simp [d1, d2])])
      (fun n => by
        try dsimp only
        rw [f_X0_isRest_L39]
        simp (disch := omega) only [↓reduceIte, Bool.false_eq_true, nrm_i, ltT, ltF, leT, leF, eqT, eqF, not_true_eq_false, not_false_eq_true, and_self, and_true, true_and, false_and, and_false, or_true, true_or, or_false, false_or, ↓btS, ↓bnS, ↓bdS, ↓jnS, ↓obS, ↓i_t, ↓i_f, ↓man_t I, ↓man_f I, ↓room_t I, ↓room_f I, ↓mir_t I, ↓mir_f I, ↓pas_t I, ↓pas_f I, ↓h_men I, ↓h_rooms I, ↓h_mirrors I, ↓o_rcv hO, ↓o_gI hO, ↓o_g3 hO, ↓o_g7 hO, ↓o_g8 hO, ↓o_g12 hO])
    refine e.trans ((fnd_if _ _ _ _).trans ?_)
    unfold rsB
    cases anyN (fun k => decide (hsF X K x y a b < hsF X K x y k b ∨ hsF X K x y b a < hsF X K x y k a)) (xR X).toNat with
    | true => rfl
    | false => rfl
  unfold f_X0_isRest
  by_cases c : a = b
  · subst c
    have p1 : ∀ {β : Type} (f : Int → Hp → Option β), bn (f_X0_has σ o a w 1) f = f (hsF X K x y a a) σ := fun f => hs (c := a) (d := a) (fl := 1) ha.1 ha.2 (Or.inl ⟨rfl, rfl⟩) f
    simp (disch := omega) only [↓reduceIte, Bool.false_eq_true, nrm_i, ltT, ltF, leT, leF, eqT, eqF, not_true_eq_false, not_false_eq_true, and_self, and_true, true_and, false_and, and_false, or_true, true_or, or_false, false_or, ↓btS, ↓bnS, ↓bdS, ↓jnS, ↓obS, ↓o_rcv hO, ↓p1, ↓lp]
  · have p1 : ∀ {β : Type} (f : Int → Hp → Option β), bn (f_X0_has σ o a w 0) f = f (hsF X K x y a b) σ := fun f => hs (c := a) (d := b) (fl := 0) ha.1 ha.2 (Or.inr ⟨c, rfl⟩) f
    have p2 : ∀ {β : Type} (f : Int → Hp → Option β), bn (f_X0_has σ o b w 0) f = f (hsF X K x y b a) σ := fun f => hs (c := b) (d := a) (fl := 0) hb.1 hb.2 (Or.inr ⟨fun h => c h.symm, rfl⟩) f
    simp (disch := omega) only [↓reduceIte, Bool.false_eq_true, nrm_i, ltT, ltF, leT, leF, eqT, eqF, not_true_eq_false, not_false_eq_true, and_self, and_true, true_and, false_and, and_false, or_true, true_or, or_false, false_or, ↓btS, ↓bnS, ↓bdS, ↓jnS, ↓obS, ↓o_rcv hO, ↓p1, ↓p2, ↓lp]
theorem h_rests (I : QI Z σ o r X K) {x y i : Int} (wx : wd x) (wy : wd y) (wi : wd i) : f_X0_rests σ o x y i = some (q_rests X K x y i, σ) := by
  obtain ⟨hO, hx, hZ, hK, hX, hW⟩ := I
  have I : QI Z σ o r X K := ⟨hO, hx, hZ, hK, hX, hW⟩
  have J := I.ci
  have hc := hO.court
  have a0 := hX.1
  have a1 := hX.2.2.1
  have a4 := hX.2.2.2.1
  have a2 := hW.1
  unfold f_X0_rests q_rests
  by_cases G : (0 ≤ x ∧ x < xM X) ∧ (0 ≤ y ∧ y < xM X) ∧ ¬ x = y ∧ -1 ≤ i
  · rw [if_pos G]
    obtain ⟨c1, c2, c3, c4⟩ := G
    have hr : ∀ {a b : Int}, 0 ≤ a → a < xR X → 0 ≤ b → b < xR X → ∀ {β : Type} (f : Int → Hp → Option β), bn (f_X0_isRest σ o a b (anI (anI ((slI 1 (xM X)) - 1) (xoI (slI 1 x) (-1))) (xoI (slI 1 y) (-1)))) f = f (if rsB X K x y a b = true then 1 else 0) σ := fun h1 h2 h3 h4 _ f => hb_isRest I c1.1 c1.2 c2.1 c2.2 ⟨h1, h2⟩ ⟨h3, h4⟩ f
    have lp : f_X0_rests_L56 o FU σ i 0 (anI (anI ((slI 1 (xM X)) - 1) (xoI (slI 1 x) (-1))) (xoI (slI 1 y) (-1))) 0 (fun s24 x3 x4 => (if ¬ nrm x3 = nrm (-1) then (some ((-1), s24)) else (some (nrm x4, s24)))) = some ((match itE (rsO X K x y i) 0 (xR X).toNat 0 with | .inl n => if i = -1 then n else -1 | .inr v => v), σ) := by
      generalize anI (anI ((slI 1 (xM X)) - 1) (xoI (slI 1 x) (-1))) (xoI (slI 1 y) (-1)) = w at *
      obtain ⟨e, p⟩ := loop0 (fun n (a : Int) j => f_X0_rests_L56 o n σ i a w j (fun s24 x3 x4 => (if ¬ nrm x3 = nrm (-1) then (some ((-1), s24)) else (some (nrm x4, s24))))) (fun a => if i = -1 then some (a, σ) else some (-1, σ)) (fun v => some (v, σ)) (rsO X K x y i) (fun a n => 0 ≤ n ∧ n ≤ 8 * a) (xR X).toNat 0 (fl := FU) (a0 := 0) (by rw [FU_eq]; omega) ⟨by decide, by decide⟩ (fun n a m ha hp => by
          obtain ⟨e, p⟩ := loop0 (fun n' (m : Int) j => f_X0_rests_L68 o n' σ i m w (a : Int) j (fun s22 x3 x4 x5 x6 => f_X0_rests_L56 o n s22 x3 x4 x5 (x6 + 1) (fun s24 x3 x4 => (if ¬ nrm x3 = nrm (-1) then (some ((-1), s24)) else (some (nrm x4, s24)))))) (fun m => f_X0_rests_L56 o n σ i m w ((a : Int) + 1) (fun s24 x3 x4 => (if ¬ nrm x3 = nrm (-1) then (some ((-1), s24)) else (some (nrm x4, s24))))) (fun v => some (v, σ)) (rsI X K x y i a) (fun b n => 0 ≤ n ∧ n ≤ 8 * a + b) (xR X).toNat 0 (fl := FU) (a0 := m) (by rw [FU_eq]; omega) ⟨hp.1, by omega⟩ (fun n' b m' hb hp' => by
              try dsimp only
              rw [f_X0_rests_L68, Int.zero_add]
              unfold rsI
              by_cases d : rsB X K x y a b = true
              · by_cases d2 : m' = i
                · exact ⟨by simp (disch := omega) only [↓reduceIte, Bool.false_eq_true, nrm_i, ltT, ltF, leT, leF, eqT, eqF, not_true_eq_false, not_false_eq_true, and_self, and_true, true_and, false_and, and_false, or_true, true_or, or_false, false_or, ↓btS, ↓bnS, ↓bdS, ↓jnS, ↓obS, ↓i_t, ↓i_f, ↓man_t I, ↓man_f I, ↓room_t I, ↓room_f I, ↓mir_t I, ↓mir_f I, ↓pas_t I, ↓pas_f I, ↓h_men I, ↓h_rooms I, ↓h_mirrors I, ↓o_rcv hO, ↓o_gI hO, ↓o_g3 hO, ↓o_g7 hO, ↓o_g8 hO, ↓o_g12 hO, ↓hr, d, d2], fun a' h => by rw [if_pos d, if_pos d2] at h; cases h⟩
                · exact ⟨by simp (disch := omega) only [↓reduceIte, Bool.false_eq_true, nrm_i, ltT, ltF, leT, leF, eqT, eqF, not_true_eq_false, not_false_eq_true, and_self, and_true, true_and, false_and, and_false, or_true, true_or, or_false, false_or, ↓btS, ↓bnS, ↓bdS, ↓jnS, ↓obS, ↓i_t, ↓i_f, ↓man_t I, ↓man_f I, ↓room_t I, ↓room_f I, ↓mir_t I, ↓mir_f I, ↓pas_t I, ↓pas_f I, ↓h_men I, ↓h_rooms I, ↓h_mirrors I, ↓o_rcv hO, ↓o_gI hO, ↓o_g3 hO, ↓o_g7 hO, ↓o_g8 hO, ↓o_g12 hO, ↓hr, d, d2], fun a' h => by rw [if_pos d, if_neg d2] at h; cases h; omega⟩
              · exact ⟨by simp (disch := omega) only [↓reduceIte, Bool.false_eq_true, nrm_i, ltT, ltF, leT, leF, eqT, eqF, not_true_eq_false, not_false_eq_true, and_self, and_true, true_and, false_and, and_false, or_true, true_or, or_false, false_or, ↓btS, ↓bnS, ↓bdS, ↓jnS, ↓obS, ↓i_t, ↓i_f, ↓man_t I, ↓man_f I, ↓room_t I, ↓room_f I, ↓mir_t I, ↓mir_f I, ↓pas_t I, ↓pas_f I, ↓h_men I, ↓h_rooms I, ↓h_mirrors I, ↓o_rcv hO, ↓o_gI hO, ↓o_g3 hO, ↓o_g7 hO, ↓o_g8 hO, ↓o_g12 hO, ↓hr, d], fun a' h => by rw [if_neg d] at h; cases h; omega⟩)
            (fun n' m' hp' => by
              try dsimp only
              rw [f_X0_rests_L68]
              simp (disch := omega) only [↓reduceIte, Bool.false_eq_true, nrm_i, ltT, ltF, leT, leF, eqT, eqF, not_true_eq_false, not_false_eq_true, and_self, and_true, true_and, false_and, and_false, or_true, true_or, or_false, false_or, ↓btS, ↓bnS, ↓bdS, ↓jnS, ↓obS, ↓i_t, ↓i_f, ↓man_t I, ↓man_f I, ↓room_t I, ↓room_f I, ↓mir_t I, ↓mir_f I, ↓pas_t I, ↓pas_f I, ↓h_men I, ↓h_rooms I, ↓h_mirrors I, ↓o_rcv hO, ↓o_gI hO, ↓o_g3 hO, ↓o_g7 hO, ↓o_g8 hO, ↓o_g12 hO])
          try dsimp only
          rw [f_X0_rests_L56, Int.zero_add, o_rcv hO, h_rooms I, nrm_i (by omega) (by omega), nrm_i (by omega) (by omega), if_neg (by omega)]
          exact ⟨e, fun a' h => by have := p a' h; omega⟩)
        (fun n a hp => by
          try dsimp only
          rw [f_X0_rests_L56]
          by_cases d : i = -1
          · simp (disch := omega) only [↓reduceIte, Bool.false_eq_true, nrm_i, ltT, ltF, leT, leF, eqT, eqF, not_true_eq_false, not_false_eq_true, and_self, and_true, true_and, false_and, and_false, or_true, true_or, or_false, false_or, ↓btS, ↓bnS, ↓bdS, ↓jnS, ↓obS, ↓i_t, ↓i_f, ↓man_t I, ↓man_f I, ↓room_t I, ↓room_f I, ↓mir_t I, ↓mir_f I, ↓pas_t I, ↓pas_f I, ↓h_men I, ↓h_rooms I, ↓h_mirrors I, ↓o_rcv hO, ↓o_gI hO, ↓o_g3 hO, ↓o_g7 hO, ↓o_g8 hO, ↓o_g12 hO, d]
          · simp (disch := omega) only [↓reduceIte, Bool.false_eq_true, nrm_i, ltT, ltF, leT, leF, eqT, eqF, not_true_eq_false, not_false_eq_true, and_self, and_true, true_and, false_and, and_false, or_true, true_or, or_false, false_or, ↓btS, ↓bnS, ↓bdS, ↓jnS, ↓obS, ↓i_t, ↓i_f, ↓man_t I, ↓man_f I, ↓room_t I, ↓room_f I, ↓mir_t I, ↓mir_f I, ↓pas_t I, ↓pas_f I, ↓h_men I, ↓h_rooms I, ↓h_mirrors I, ↓o_rcv hO, ↓o_gI hO, ↓o_g3 hO, ↓o_g7 hO, ↓o_g8 hO, ↓o_g12 hO, d])
      refine e.trans ?_
      cases itE (rsO X K x y i) 0 (xR X).toNat 0 with
      | inl n => dsimp only; split <;> rfl
      | inr v => rfl
    simp (disch := omega) only [↓reduceIte, Bool.false_eq_true, nrm_i, ltT, ltF, leT, leF, eqT, eqF, not_true_eq_false, not_false_eq_true, and_self, and_true, true_and, false_and, and_false, or_true, true_or, or_false, false_or, ↓btS, ↓bnS, ↓bdS, ↓jnS, ↓obS, ↓i_t, ↓i_f, ↓man_t I, ↓man_f I, ↓room_t I, ↓room_f I, ↓mir_t I, ↓mir_f I, ↓pas_t I, ↓pas_f I, ↓h_men I, ↓h_rooms I, ↓h_mirrors I, ↓o_rcv hO, ↓o_gI hO, ↓o_g3 hO, ↓o_g7 hO, ↓o_g8 hO, ↓o_g12 hO, ↓lp]
  · rw [if_neg G]
    by_cases c1 : 0 ≤ x ∧ x < xM X
    · by_cases c2 : 0 ≤ y ∧ y < xM X
      · by_cases c3 : ¬ x = y
        · by_cases c4 : -1 ≤ i
          · exact absurd ⟨c1, c2, c3, c4⟩ G
          · simp (disch := omega) only [↓reduceIte, Bool.false_eq_true, nrm_i, ltT, ltF, leT, leF, eqT, eqF, not_true_eq_false, not_false_eq_true, and_self, and_true, true_and, false_and, and_false, or_true, true_or, or_false, false_or, ↓btS, ↓bnS, ↓bdS, ↓jnS, ↓obS, ↓i_t, ↓i_f, ↓man_t I, ↓man_f I, ↓room_t I, ↓room_f I, ↓mir_t I, ↓mir_f I, ↓pas_t I, ↓pas_f I, ↓h_men I, ↓h_rooms I, ↓h_mirrors I, ↓o_rcv hO, ↓o_gI hO, ↓o_g3 hO, ↓o_g7 hO, ↓o_g8 hO, ↓o_g12 hO]
        · simp (disch := omega) only [↓reduceIte, Bool.false_eq_true, nrm_i, ltT, ltF, leT, leF, eqT, eqF, not_true_eq_false, not_false_eq_true, and_self, and_true, true_and, false_and, and_false, or_true, true_or, or_false, false_or, ↓btS, ↓bnS, ↓bdS, ↓jnS, ↓obS, ↓i_t, ↓i_f, ↓man_t I, ↓man_f I, ↓room_t I, ↓room_f I, ↓mir_t I, ↓mir_f I, ↓pas_t I, ↓pas_f I, ↓h_men I, ↓h_rooms I, ↓h_mirrors I, ↓o_rcv hO, ↓o_gI hO, ↓o_g3 hO, ↓o_g7 hO, ↓o_g8 hO, ↓o_g12 hO]
      · simp (disch := omega) only [↓reduceIte, Bool.false_eq_true, nrm_i, ltT, ltF, leT, leF, eqT, eqF, not_true_eq_false, not_false_eq_true, and_self, and_true, true_and, false_and, and_false, or_true, true_or, or_false, false_or, ↓btS, ↓bnS, ↓bdS, ↓jnS, ↓obS, ↓i_t, ↓i_f, ↓man_t I, ↓man_f I, ↓room_t I, ↓room_f I, ↓mir_t I, ↓mir_f I, ↓pas_t I, ↓pas_f I, ↓h_men I, ↓h_rooms I, ↓h_mirrors I, ↓o_rcv hO, ↓o_gI hO, ↓o_g3 hO, ↓o_g7 hO, ↓o_g8 hO, ↓o_g12 hO]
    · simp (disch := omega) only [↓reduceIte, Bool.false_eq_true, nrm_i, ltT, ltF, leT, leF, eqT, eqF, not_true_eq_false, not_false_eq_true, and_self, and_true, true_and, false_and, and_false, or_true, true_or, or_false, false_or, ↓btS, ↓bnS, ↓bdS, ↓jnS, ↓obS, ↓i_t, ↓i_f, ↓man_t I, ↓man_f I, ↓room_t I, ↓room_f I, ↓mir_t I, ↓mir_f I, ↓pas_t I, ↓pas_f I, ↓h_men I, ↓h_rooms I, ↓h_mirrors I, ↓o_rcv hO, ↓o_gI hO, ↓o_g3 hO, ↓o_g7 hO, ↓o_g8 hO, ↓o_g12 hO]
end
