set_option maxRecDepth 100000
/-! ===== PURE: what is asked of the object: text X and court K ===== -/
section
variable {X : Txt} {K : Crt} {q : Int}
theorem n_W (hX : WfX X) (hW : WfQ q X K) {m t : Int} (b0 : 0 ≤ m) (b1 : m < xM X) (b2 : 0 ≤ t) (b3 : t ≤ kMi K) : nrm (kW K m t) = kW K m t := by
  have a0 := hX.1
  have := (hW.2.1 m t b0 b1 b2 b3).1
  exact nrm_i (by omega) (by omega)
theorem n_R (hW : WfQ q X K) {m t : Int} (b0 : 0 ≤ m) (b1 : m < xM X) (b2 : 0 ≤ t) (b3 : t ≤ kMi K) : nrm (kR K m t) = kR K m t := by
  have := (hW.2.1 m t b0 b1 b2 b3).2
  exact nrm_i (by omega) (by omega)
theorem n_H (hX : WfX X) (hW : WfQ q X K) {k t : Int} (b0 : 0 ≤ k) (b1 : k < xK X) (b2 : 0 ≤ t) (b3 : t ≤ kMi K) : nrm (kH K k t) = kH K k t := by
  have a0 := hX.1
  have := (hW.2.2.1 k t b0 b1 b2 b3).1
  exact nrm_i (by omega) (by omega)
theorem n_U (hW : WfQ q X K) {k t : Int} (b0 : 0 ≤ k) (b1 : k < xK X) (b2 : 0 ≤ t) (b3 : t ≤ kMi K) : nrm (kU K k t) = kU K k t := by
  have := (hW.2.2.1 k t b0 b1 b2 b3).2.1
  exact nrm_i (by omega) (by omega)
theorem n_L (hW : WfK X K) {k t : Int} (b0 : 0 ≤ k) (b1 : k < xK X) (b2 : 0 ≤ t) (b3 : t ≤ kMi K) : nrm (kL K k t) = kL K k t := by
  have := (hW.2.2.1 k t b0 b1 b2 b3).2.2 b3
  exact nrm_i (by omega) (by omega)
theorem n_B (hW : WfQ q X K) {k : Int} (b0 : 0 ≤ k) (b1 : k < xK X) : nrm (kB K k) = kB K k := by
  have := (hW.2.2.2 k b0 b1).1
  have := hW.1
  exact nrm_i (by omega) (by omega)
theorem n_S (hW : WfK X K) {k t : Int} (b0 : 0 ≤ k) (b1 : k < xK X) (b2 : 0 ≤ t) (b3 : t ≤ kMi K) : nrm (shw K k t) = shw K k t := by
  have := shw_le hW b0 b1 b2 b3
  have := hW.1
  exact nrm_i (by omega) (by omega)
theorem n_M (hX : WfX X) (r t : Int) : nrm ((mIn X K r t : Nat) : Int) = ((mIn X K r t : Nat) : Int) := by
  have := mIn_lt X hX K r t
  exact nrm_i (by omega) (by omega)
theorem mSh_lt (hX : WfX X) (k t : Int) : mSh X K k t < 64 := by
  unfold mSh
  split
  · exact mIn_lt X hX K _ _
  · decide
theorem n_Ms (hX : WfX X) (k t : Int) : nrm ((mSh X K k t : Nat) : Int) = ((mSh X K k t : Nat) : Int) := by
  have := mSh_lt (K := K) hX k t
  exact nrm_i (by omega) (by omega)
/-- a mirror shows an earlier minute -/
theorem shw_t (hW : WfK X K) {k t : Int} (h0 : 0 ≤ k) (h1 : k < xK X) (h2 : 0 ≤ t) (h3 : t ≤ kMi K) : shw K k t = -2 ∨ (0 ≤ shw K k t ∧ shw K k t ≤ kMi K) := shw_le hW h0 h1 h2 h3
end
section
variable {σ : Hp} {a : Nat} {X : Txt} {K : Crt} {q : Int}
theorem v_mi (h : CatQ q σ a X K) : ci σ a 9 = kMi K := h.1.1
theorem v_W (h : CatQ q σ a X K) {m t : Int} (b0 : 0 ≤ m) (b1 : m < xM X) (b2 : 0 ≤ t) (b3 : t ≤ kMi K) : ci σ (a + 2 + m.toNat) t = kW K m t := (h.2.1 m t b0 b1 b2 b3).1
theorem v_R (h : CatQ q σ a X K) {m t : Int} (b0 : 0 ≤ m) (b1 : m < xM X) (b2 : 0 ≤ t) (b3 : t ≤ kMi K) : ci σ (a + 9 + m.toNat) t = kR K m t := (h.2.1 m t b0 b1 b2 b3).2
theorem v_H (h : CatQ q σ a X K) {k t : Int} (b0 : 0 ≤ k) (b1 : k < xK X) (b2 : 0 ≤ t) (b3 : t ≤ kMi K) : ci σ (a + 16 + k.toNat) t = kH K k t := (h.2.2.1 k t b0 b1 b2 b3).1
theorem v_U (h : CatQ q σ a X K) {k t : Int} (b0 : 0 ≤ k) (b1 : k < xK X) (b2 : 0 ≤ t) (b3 : t ≤ kMi K) : ci σ (a + 25 + k.toNat) t = kU K k t := (h.2.2.1 k t b0 b1 b2 b3).2.1
theorem v_L (h : Cat σ a X K) {k t : Int} (b0 : 0 ≤ k) (b1 : k < xK X) (b2 : 0 ≤ t) (b3 : t ≤ kMi K) : ci σ (a + 34 + k.toNat) t = kL K k t := (h.2.2.1 k t b0 b1 b2 b3).2.2 b3
end
section
variable {Z : Nat → Prop} {σ : Hp} {o r : Nat} {X : Txt} {K : Crt} {β : Type}
def QI (Z : Nat → Prop) (σ : Hp) (o r : Nat) (X : Txt) (K : Crt) : Prop := Osh σ o r ∧ TxtAt Z σ r X ∧ (∀ x : Nat, Z x → ¬ stS o x) ∧ Cat σ (o + 14) X K ∧ WfX X ∧ WfK X K
theorem h_men (I : QI Z σ o r X K) (f : Int → Hp → Option β) : bn (f_X0_men σ o) f = f (xM X) σ := by
  obtain ⟨hO, hx, -⟩ := I
  obtain ⟨b, el, g1, g2, -⟩ := x_men hx
  refine bnP ?_ f
  unfold f_X0_men
  rw [o_g3 hO, obP g1, l_rcvb g2, l_sizeb g2]
theorem h_rooms (I : QI Z σ o r X K) (f : Int → Hp → Option β) : bn (f_X0_rooms σ o) f = f (xR X) σ := by
  obtain ⟨hO, hx, -⟩ := I
  obtain ⟨b, el, g1, g2, -⟩ := x_rooms hx
  refine bnP ?_ f
  unfold f_X0_rooms
  rw [o_g3 hO, obP g1, l_rcvb g2, l_sizeb g2]
theorem h_mirrors (I : QI Z σ o r X K) (f : Int → Hp → Option β) : bn (f_X0_mirrors σ o) f = f (xK X) σ := by
  obtain ⟨hO, hx, -⟩ := I
  obtain ⟨b, el, g1, g2, -⟩ := x_mirrors hx
  refine bnP ?_ f
  unfold f_X0_mirrors
  rw [o_g3 hO, obP g1, l_rcvb g2, l_sizeb g2]
theorem i_t {x a b : Int} (h1 : a ≤ x) (h2 : x ≤ b) (hx : -2147483648 ≤ x) (hx2 : x ≤ 2147483647) (ha : -2147483648 ≤ a) (hb : b ≤ 2147483647) (f : Int → Hp → Option β) : bn (f_X0_isIn σ x a b) f = f 1 σ := by
  refine bnP ?_ f
  unfold f_X0_isIn
  simp (disch := omega) only [↓reduceIte, Bool.false_eq_true, nrm_i, ltT, ltF, leT, leF, eqT, eqF, not_true_eq_false, not_false_eq_true, and_self, and_true, true_and, false_and, and_false, or_true, true_or, or_false, false_or, ↓btS, ↓bnS, ↓bdS, ↓jnS, ↓obS]
theorem i_f {x a b : Int} (h1 : x < a ∨ b < x) (hx : -2147483648 ≤ x) (hx2 : x ≤ 2147483647) (ha : -2147483648 ≤ a) (ha2 : a ≤ 2147483647) (hb : -2147483648 ≤ b) (hb2 : b ≤ 2147483647) (f : Int → Hp → Option β) : bn (f_X0_isIn σ x a b) f = f 0 σ := by
  refine bnP ?_ f
  unfold f_X0_isIn
  by_cases h : x < a
  · simp (disch := omega) only [↓reduceIte, Bool.false_eq_true, nrm_i, ltT, ltF, leT, leF, eqT, eqF, not_true_eq_false, not_false_eq_true, and_self, and_true, true_and, false_and, and_false, or_true, true_or, or_false, false_or, ↓btS, ↓bnS, ↓bdS, ↓jnS, ↓obS]
  · simp (disch := omega) only [↓reduceIte, Bool.false_eq_true, nrm_i, ltT, ltF, leT, leF, eqT, eqF, not_true_eq_false, not_false_eq_true, and_self, and_true, true_and, false_and, and_false, or_true, true_or, or_false, false_or, ↓btS, ↓bnS, ↓bdS, ↓jnS, ↓obS]
theorem man_t (I : QI Z σ o r X K) {x : Int} (h0 : 0 ≤ x) (h1 : x < xM X) (f : Int → Hp → Option β) : bn (f_X0_isMan σ o x) f = f 1 σ := by
  have a1 := I.2.2.2.2.1.2.2.1
  refine bnP ?_ f
  unfold f_X0_isMan
  simp (disch := omega) only [↓reduceIte, Bool.false_eq_true, nrm_i, ltT, ltF, leT, leF, eqT, eqF, not_true_eq_false, not_false_eq_true, and_self, and_true, true_and, false_and, and_false, or_true, true_or, or_false, false_or, ↓btS, ↓bnS, ↓bdS, ↓jnS, ↓obS, ↓o_rcv I.1, ↓h_men I, ↓i_t]
theorem man_f (I : QI Z σ o r X K) {x : Int} (h0 : x < 0 ∨ xM X ≤ x) (h1 : -2147483648 ≤ x) (h2 : x ≤ 2147483647) (f : Int → Hp → Option β) : bn (f_X0_isMan σ o x) f = f 0 σ := by
  have a1 := I.2.2.2.2.1.2.2.1
  refine bnP ?_ f
  unfold f_X0_isMan
  simp (disch := omega) only [↓reduceIte, Bool.false_eq_true, nrm_i, ltT, ltF, leT, leF, eqT, eqF, not_true_eq_false, not_false_eq_true, and_self, and_true, true_and, false_and, and_false, or_true, true_or, or_false, false_or, ↓btS, ↓bnS, ↓bdS, ↓jnS, ↓obS, ↓o_rcv I.1, ↓h_men I, ↓i_f]
theorem room_t (I : QI Z σ o r X K) {x : Int} (h0 : 0 ≤ x) (h1 : x < xR X) (f : Int → Hp → Option β) : bn (f_X0_isRoom σ o x) f = f 1 σ := by
  have a1 := I.2.2.2.2.1.1
  refine bnP ?_ f
  unfold f_X0_isRoom
  simp (disch := omega) only [↓reduceIte, Bool.false_eq_true, nrm_i, ltT, ltF, leT, leF, eqT, eqF, not_true_eq_false, not_false_eq_true, and_self, and_true, true_and, false_and, and_false, or_true, true_or, or_false, false_or, ↓btS, ↓bnS, ↓bdS, ↓jnS, ↓obS, ↓o_rcv I.1, ↓h_rooms I, ↓i_t]
theorem room_f (I : QI Z σ o r X K) {x : Int} (h0 : x < 0 ∨ xR X ≤ x) (h1 : -2147483648 ≤ x) (h2 : x ≤ 2147483647) (f : Int → Hp → Option β) : bn (f_X0_isRoom σ o x) f = f 0 σ := by
  have a1 := I.2.2.2.2.1.1
  refine bnP ?_ f
  unfold f_X0_isRoom
  simp (disch := omega) only [↓reduceIte, Bool.false_eq_true, nrm_i, ltT, ltF, leT, leF, eqT, eqF, not_true_eq_false, not_false_eq_true, and_self, and_true, true_and, false_and, and_false, or_true, true_or, or_false, false_or, ↓btS, ↓bnS, ↓bdS, ↓jnS, ↓obS, ↓o_rcv I.1, ↓h_rooms I, ↓i_f]
theorem mir_t (I : QI Z σ o r X K) {x : Int} (h0 : 0 ≤ x) (h1 : x < xK X) (f : Int → Hp → Option β) : bn (f_X0_isMirror σ o x) f = f 1 σ := by
  have a1 := I.2.2.2.2.1.2.2.2.1
  refine bnP ?_ f
  unfold f_X0_isMirror
  simp (disch := omega) only [↓reduceIte, Bool.false_eq_true, nrm_i, ltT, ltF, leT, leF, eqT, eqF, not_true_eq_false, not_false_eq_true, and_self, and_true, true_and, false_and, and_false, or_true, true_or, or_false, false_or, ↓btS, ↓bnS, ↓bdS, ↓jnS, ↓obS, ↓o_rcv I.1, ↓h_mirrors I, ↓i_t]
theorem mir_f (I : QI Z σ o r X K) {x : Int} (h0 : x < 0 ∨ xK X ≤ x) (h1 : -2147483648 ≤ x) (h2 : x ≤ 2147483647) (f : Int → Hp → Option β) : bn (f_X0_isMirror σ o x) f = f 0 σ := by
  have a1 := I.2.2.2.2.1.2.2.2.1
  refine bnP ?_ f
  unfold f_X0_isMirror
  simp (disch := omega) only [↓reduceIte, Bool.false_eq_true, nrm_i, ltT, ltF, leT, leF, eqT, eqF, not_true_eq_false, not_false_eq_true, and_self, and_true, true_and, false_and, and_false, or_true, true_or, or_false, false_or, ↓btS, ↓bnS, ↓bdS, ↓jnS, ↓obS, ↓o_rcv I.1, ↓h_mirrors I, ↓i_f]
theorem pas_t (I : QI Z σ o r X K) {x : Int} (h0 : 0 ≤ x) (h1 : x ≤ kMi K) (f : Int → Hp → Option β) : bn (f_X0_isPast σ o x) f = f 1 σ := by
  have a2 := I.2.2.2.2.2.1
  refine bnP ?_ f
  unfold f_X0_isPast
  simp (disch := omega) only [↓reduceIte, Bool.false_eq_true, nrm_i, ltT, ltF, leT, leF, eqT, eqF, not_true_eq_false, not_false_eq_true, and_self, and_true, true_and, false_and, and_false, or_true, true_or, or_false, false_or, ↓btS, ↓bnS, ↓bdS, ↓jnS, ↓obS, ↓o_g7 I.1, ↓c_gb I.1.court, v_mi I.2.2.2.1, ↓i_t]
theorem pas_f (I : QI Z σ o r X K) {x : Int} (h0 : x < 0 ∨ kMi K < x) (h1 : -2147483648 ≤ x) (h2 : x ≤ 2147483647) (f : Int → Hp → Option β) : bn (f_X0_isPast σ o x) f = f 0 σ := by
  have a2 := I.2.2.2.2.2.1
  refine bnP ?_ f
  unfold f_X0_isPast
  simp (disch := omega) only [↓reduceIte, Bool.false_eq_true, nrm_i, ltT, ltF, leT, leF, eqT, eqF, not_true_eq_false, not_false_eq_true, and_self, and_true, true_and, false_and, and_false, or_true, true_or, or_false, false_or, ↓btS, ↓bnS, ↓bdS, ↓jnS, ↓obS, ↓o_g7 I.1, ↓c_gb I.1.court, v_mi I.2.2.2.1, ↓i_f]
end
/-! ===== the twin's ===== -/
section
variable {s : TW} {X : Txt} {K : Crt} {β : Type}
theorem ti_t {x a b : Int} (h1 : a ≤ x) (h2 : x ≤ b) (hx : -2147483648 ≤ x) (hx2 : x ≤ 2147483647) (ha : -2147483648 ≤ a) (hb : b ≤ 2147483647) (f : Int → TW → Option β) : bt_ (f_X8_in s x a b) f = f 1 s := by
  refine btP ?_ f
  unfold f_X8_in
  simp (disch := omega) only [↓reduceIte, Bool.false_eq_true, nrm_i, ltT, ltF, leT, leF, eqT, eqF, not_true_eq_false, not_false_eq_true, and_self, and_true, true_and, false_and, and_false, or_true, true_or, or_false, false_or, ↓btS, ↓bnS, ↓bdS, ↓jnS, ↓obS]
theorem ti_f {x a b : Int} (h1 : x < a ∨ b < x) (hx : -2147483648 ≤ x) (hx2 : x ≤ 2147483647) (ha : -2147483648 ≤ a) (ha2 : a ≤ 2147483647) (hb : -2147483648 ≤ b) (hb2 : b ≤ 2147483647) (f : Int → TW → Option β) : bt_ (f_X8_in s x a b) f = f 0 s := by
  refine btP ?_ f
  unfold f_X8_in
  by_cases h : x < a
  · simp (disch := omega) only [↓reduceIte, Bool.false_eq_true, nrm_i, ltT, ltF, leT, leF, eqT, eqF, not_true_eq_false, not_false_eq_true, and_self, and_true, true_and, false_and, and_false, or_true, true_or, or_false, false_or, ↓btS, ↓bnS, ↓bdS, ↓jnS, ↓obS]
  · simp (disch := omega) only [↓reduceIte, Bool.false_eq_true, nrm_i, ltT, ltF, leT, leF, eqT, eqF, not_true_eq_false, not_false_eq_true, and_self, and_true, true_and, false_and, and_false, or_true, true_or, or_false, false_or, ↓btS, ↓bnS, ↓bdS, ↓jnS, ↓obS]
theorem tman_t (hX : WfX X) (hs : RepX s X) {x : Int} (h0 : 0 ≤ x) (h1 : x < xM X) (f : Int → TW → Option β) : bt_ (f_X8_isMan s x) f = f 1 s := by
  have a1 := hX.2.2.1
  have a3 := hs.1
  refine btP ?_ f
  unfold f_X8_isMan
  simp (disch := omega) only [↓reduceIte, Bool.false_eq_true, nrm_i, ltT, ltF, leT, leF, eqT, eqF, not_true_eq_false, not_false_eq_true, and_self, and_true, true_and, false_and, and_false, or_true, true_or, or_false, false_or, ↓btS, ↓bnS, ↓bdS, ↓jnS, ↓obS, ↓tb28, hs.2.1.2.2.1, ↓ti_t]
theorem tman_f (hX : WfX X) (hs : RepX s X) {x : Int} (h0 : x < 0 ∨ xM X ≤ x) (h1 : -2147483648 ≤ x) (h2 : x ≤ 2147483647) (f : Int → TW → Option β) : bt_ (f_X8_isMan s x) f = f 0 s := by
  have a1 := hX.2.2.1
  have a3 := hs.1
  refine btP ?_ f
  unfold f_X8_isMan
  simp (disch := omega) only [↓reduceIte, Bool.false_eq_true, nrm_i, ltT, ltF, leT, leF, eqT, eqF, not_true_eq_false, not_false_eq_true, and_self, and_true, true_and, false_and, and_false, or_true, true_or, or_false, false_or, ↓btS, ↓bnS, ↓bdS, ↓jnS, ↓obS, ↓tb28, hs.2.1.2.2.1, ↓ti_f]
theorem troom_t (hX : WfX X) (hs : RepX s X) {x : Int} (h0 : 0 ≤ x) (h1 : x < xR X) (f : Int → TW → Option β) : bt_ (f_X8_isRoom s x) f = f 1 s := by
  have a1 := hX.1
  have a3 := hs.1
  refine btP ?_ f
  unfold f_X8_isRoom
  simp (disch := omega) only [↓reduceIte, Bool.false_eq_true, nrm_i, ltT, ltF, leT, leF, eqT, eqF, not_true_eq_false, not_false_eq_true, and_self, and_true, true_and, false_and, and_false, or_true, true_or, or_false, false_or, ↓btS, ↓bnS, ↓bdS, ↓jnS, ↓obS, ↓tb24, hs.2.1.1, ↓ti_t]
theorem troom_f (hX : WfX X) (hs : RepX s X) {x : Int} (h0 : x < 0 ∨ xR X ≤ x) (h1 : -2147483648 ≤ x) (h2 : x ≤ 2147483647) (f : Int → TW → Option β) : bt_ (f_X8_isRoom s x) f = f 0 s := by
  have a1 := hX.1
  have a3 := hs.1
  refine btP ?_ f
  unfold f_X8_isRoom
  simp (disch := omega) only [↓reduceIte, Bool.false_eq_true, nrm_i, ltT, ltF, leT, leF, eqT, eqF, not_true_eq_false, not_false_eq_true, and_self, and_true, true_and, false_and, and_false, or_true, true_or, or_false, false_or, ↓btS, ↓bnS, ↓bdS, ↓jnS, ↓obS, ↓tb24, hs.2.1.1, ↓ti_f]
theorem tmir_t (hX : WfX X) (hs : RepX s X) {x : Int} (h0 : 0 ≤ x) (h1 : x < xK X) (f : Int → TW → Option β) : bt_ (f_X8_isMirror s x) f = f 1 s := by
  have a1 := hX.2.2.2.1
  have a3 := hs.1
  refine btP ?_ f
  unfold f_X8_isMirror
  simp (disch := omega) only [↓reduceIte, Bool.false_eq_true, nrm_i, ltT, ltF, leT, leF, eqT, eqF, not_true_eq_false, not_false_eq_true, and_self, and_true, true_and, false_and, and_false, or_true, true_or, or_false, false_or, ↓btS, ↓bnS, ↓bdS, ↓jnS, ↓obS, ↓tb31, hs.2.1.2.2.2.1, ↓ti_t]
theorem tmir_f (hX : WfX X) (hs : RepX s X) {x : Int} (h0 : x < 0 ∨ xK X ≤ x) (h1 : -2147483648 ≤ x) (h2 : x ≤ 2147483647) (f : Int → TW → Option β) : bt_ (f_X8_isMirror s x) f = f 0 s := by
  have a1 := hX.2.2.2.1
  have a3 := hs.1
  refine btP ?_ f
  unfold f_X8_isMirror
  simp (disch := omega) only [↓reduceIte, Bool.false_eq_true, nrm_i, ltT, ltF, leT, leF, eqT, eqF, not_true_eq_false, not_false_eq_true, and_self, and_true, true_and, false_and, and_false, or_true, true_or, or_false, false_or, ↓btS, ↓bnS, ↓bdS, ↓jnS, ↓obS, ↓tb31, hs.2.1.2.2.2.1, ↓ti_f]
theorem tpas_t (hn : RepN s X K) (hW : WfK X K) {x : Int} (h0 : 0 ≤ x) (h1 : x ≤ kMi K) (f : Int → TW → Option β) : bt_ (f_X8_isPast s x) f = f 1 s := by
  have a2 := hW.1
  have e : s.1 53 = kMi K := hn.1
  refine btP ?_ f
  unfold f_X8_isPast
  simp (disch := omega) only [↓reduceIte, Bool.false_eq_true, nrm_i, ltT, ltF, leT, leF, eqT, eqF, not_true_eq_false, not_false_eq_true, and_self, and_true, true_and, false_and, and_false, or_true, true_or, or_false, false_or, ↓btS, ↓bnS, ↓bdS, ↓jnS, ↓obS, e, ↓ti_t]
theorem tpas_f (hn : RepN s X K) (hW : WfK X K) {x : Int} (h0 : x < 0 ∨ kMi K < x) (h1 : -2147483648 ≤ x) (h2 : x ≤ 2147483647) (f : Int → TW → Option β) : bt_ (f_X8_isPast s x) f = f 0 s := by
  have a2 := hW.1
  have e : s.1 53 = kMi K := hn.1
  refine btP ?_ f
  unfold f_X8_isPast
  simp (disch := omega) only [↓reduceIte, Bool.false_eq_true, nrm_i, ltT, ltF, leT, leF, eqT, eqF, not_true_eq_false, not_false_eq_true, and_self, and_true, true_and, false_and, and_false, or_true, true_or, or_false, false_or, ↓btS, ↓bnS, ↓bdS, ↓jnS, ↓obS, e, ↓ti_f]
end
