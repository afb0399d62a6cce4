set_option maxRecDepth 100000
/-! ===== PURE: loops; the twin's small functions ===== -/
theorem loop {S β : Type} (f : Nat → S → Option β) (R : Option β → Prop) (P : Nat → S → Prop) (N : Nat)
    (step : ∀ (n i : Nat) (s : S), i < N → P i s → R (f (n + 1) s) ∨ ∃ s' : S, f (n + 1) s = f n s' ∧ P (i + 1) s')
    (fin : ∀ (n : Nat) (s : S), P N s → R (f (n + 1) s)) : ∀ (j i n : Nat) (s : S), i + j = N → j < n → P i s → R (f n s) := by
  intro j
  induction j with
  | zero =>
    intro i n s hi hn hP
    obtain ⟨n, rfl⟩ : ∃ q, n = q + 1 := ⟨n - 1, by omega⟩
    have : i = N := by omega
    subst this
    exact fin n s hP
  | succ j ih =>
    intro i n s hi hn hP
    obtain ⟨n, rfl⟩ : ∃ q, n = q + 1 := ⟨n - 1, by omega⟩
    rcases step n i s (by omega) hP with h | ⟨s', e, h⟩
    · exact h
    · rw [e]
      exact ih (i + 1) n s' (by omega) (by omega) h
theorem t_in (s : TW) {x a b : Int} (hx : -2147483648 ≤ x) (hx2 : x ≤ 2147483647) (ha : -2147483648 ≤ a) (ha2 : a ≤ 2147483647) (hb : -2147483648 ≤ b) (hb2 : b ≤ 2147483647) : f_X8_in s x a b = some (if a ≤ x ∧ x ≤ b then 1 else 0, s) := by
  unfold f_X8_in
  rw [nrm_i hx hx2, nrm_i ha ha2, nrm_i hb hb2]
  by_cases h1 : x < a
  · rw [if_pos h1, if_neg (by omega)]
  · rw [if_neg h1]
    by_cases h2 : b < x
    · rw [if_pos h2, if_neg (by omega)]
    · rw [if_neg h2, if_pos (by omega)]
theorem nrm_in (x : Int) : -2147483648 ≤ nrm x ∧ nrm x ≤ 2147483647 := ⟨nrm_lo x, by have := nrm_hi x; omega⟩
theorem f_in_nrm (s : TW) (x a b : Int) : f_X8_in s x a b = f_X8_in s (nrm x) a b := by
  unfold f_X8_in
  rw [nrm_nrm]
theorem zo (c : Prop) [Decidable c] : nrm (if c then 1 else 0) = 0 ∨ nrm (if c then 1 else 0) = 1 := by split <;> decide
section
variable {s : TW} {X : Txt} {K : Crt}
theorem t_isMan (hX : WfX X) (hs : RepX s X) (x : Int) : f_X8_isMan s x = some (if 0 ≤ nrm x ∧ nrm x < xM X then 1 else 0, s) := by
  have h1 := hX.2.2.1
  have h2 := hs.1
  unfold f_X8_isMan
  rw [ta28 (by omega) (by omega), obS, hs.2.1.2.2.1, f_in_nrm, t_in s (nrm_in x).1 (nrm_in x).2 (by decide) (by decide) (by omega) (by omega), btS, if_pos (zo _)]
  congr 2
  by_cases h : 0 ≤ nrm x ∧ nrm x < xM X
  · rw [if_pos h, if_pos (by omega)]
  · rw [if_neg h, if_neg (by omega)]
theorem t_isTurned {q : Int} (hr : RepQ q s X K) (hK : WfQ q X K) {k t : Int} (h0 : 0 ≤ k) (h1 : k < xK X) (hX : WfX X) (h2 : 0 ≤ t) (h3 : t ≤ kMi K) : f_X8_isTurned s k t = some (kU K k t, s) := by
  have a1 := hX.2.2.2.1
  have a2 := hK.1
  unfold f_X8_isTurned
  rw [ta56 (by omega) (by omega), obS, (hr.2.2.1 k t h0 h1 h2 h3).2.1]
  rcases (hK.2.2.1 k t h0 h1 h2 h3).2.1 with e | e
  · rw [e, if_pos (by decide)]
  · rw [e, if_neg (by decide)]
theorem t_bits (s : TW) (x : Nat) (hx : x < 256) : f_X8_bits s x = some (((cn (fun a => x.testBit a) 8 : Nat) : Int), s) := by
  unfold f_X8_bits
  refine loop (S := Int × Int) (fun n q => f_X8_bits_L4 n s x q.1 q.2 (fun s2 x1 => some (nrm x1, s2))) (· = some (((cn (fun a => x.testBit a) 8 : Nat) : Int), s)) (fun i q => q = (((cn (fun a => x.testBit a) i : Nat) : Int), (i : Int))) 8 ?_ ?_ 8 0 FU (0, 0) rfl (by decide) rfl
  · rintro n i ⟨a, b⟩ hi he
    cases he
    refine Or.inr ⟨(((cn (fun a => x.testBit a) (i + 1) : Nat) : Int), ((i + 1 : Nat) : Int)), ?_, rfl⟩
    show f_X8_bits_L4 (n + 1) s x _ _ _ = f_X8_bits_L4 n s x _ _ _
    rw [f_X8_bits_L4, nrm_i (by decide) (by decide), nrm_i (by omega) (by omega), if_neg (by omega), sr_bit i (by omega) x hx, cn]
    congr 1
    split <;> simp_all
  · rintro n ⟨a, b⟩ he
    cases he
    show f_X8_bits_L4 (n + 1) s x _ _ _ = _
    have := cn_le (fun a => x.testBit a) 8
    rw [f_X8_bits_L4, if_pos (show nrm 8 ≤ nrm ((8 : Nat) : Int) by decide)]
    show some (nrm ((cn (fun a => x.testBit a) 8 : Nat) : Int), s) = _
    rw [nrm_i (by omega) (by omega)]
theorem t_menIn {q : Int} (hX : WfX X) (hs : RepX s X) (hr : RepQ q s X K) (hK : WfQ q X K) {r t : Int} (hr0 : -2147483648 ≤ r) (hr1 : r ≤ 2147483647) (h2 : 0 ≤ t) (h3 : t ≤ kMi K) : f_X8_menIn s r t = some ((mIn X K r t : Int), s) := by
  have a1 := hX.2.2.1
  have a0 := hX.1
  have a2 := hK.1
  have a3 := hs.1
  unfold f_X8_menIn mIn
  refine loop (S := Int × Int) (fun n q => f_X8_menIn_L5 n s r t q.1 q.2 (fun s5 x3 => some (nrm x3, s5))) (· = some ((ms (fun m => decide (kW K m t = r)) (xM X).toNat : Int), s)) (fun i q => q = ((ms (fun m => decide (kW K m t = r)) i : Int), (i : Int))) (xM X).toNat ?_ ?_ (xM X).toNat 0 FU (0, 0) (by omega) (by rw [FU_eq]; omega) rfl
  · rintro n i ⟨a, b⟩ hi he
    cases he
    refine Or.inr ⟨((ms (fun m => decide (kW K m t = r)) (i + 1) : Int), ((i + 1 : Nat) : Int)), ?_, rfl⟩
    have hw := (hr.2.1 i t (by omega) (by omega) h2 h3).1
    have hw2 := (hK.2.1 i t (by omega) (by omega) h2 h3).1
    have hl : ms (fun m => decide (kW K m t = r)) i < 2 ^ i := ms_lt _ _
    have hp : 2 ^ i ≤ 2 ^ 6 := Nat.pow_le_pow_right (by decide) (by omega)
    show f_X8_menIn_L5 (n + 1) s r t _ _ _ = f_X8_menIn_L5 n s r t _ _ _
    rw [f_X8_menIn_L5, ta28 (by omega) (by omega), obS, hs.2.1.2.2.1, nrm_i (by omega) (by omega), nrm_i (by omega) (by omega), if_neg (by omega), ta56 (by omega) (by omega), obS, hw, nrm_i (by omega) (by omega), nrm_i hr0 hr1, ms]
    by_cases h : kW K i t = r
    · rw [if_neg (by omega), slI_1 i (by omega), orI_nat _ _ (by omega) (by omega), if_pos (by simpa using h)]
      rfl
    · rw [if_pos h, if_neg (by simpa using h), Nat.or_zero]
      rfl
  · rintro n ⟨a, b⟩ he
    cases he
    show f_X8_menIn_L5 (n + 1) s r t _ _ _ = _
    have hl : mIn X K r t < 64 := mIn_lt X hX K r t
    unfold mIn at hl
    rw [f_X8_menIn_L5, ta28 (by omega) (by omega), obS, hs.2.1.2.2.1, nrm_i (z := xM X) (by omega) (by omega), nrm_i (z := (((xM X).toNat : Nat) : Int)) (by omega) (by omega), if_pos (by omega)]
    show some (nrm ((ms (fun m => decide (kW K m t = r)) (xM X).toNat : Nat) : Int), s) = _
    rw [nrm_i (by omega) (by omega)]
theorem t_showsAt (hX : WfX X) (hr : RepW s X K) (hK : WfK X K) {k t : Int} (h0 : 0 ≤ k) (h1 : k < xK X) (h2 : 0 ≤ t) (h3 : t ≤ kMi K) : f_X8_showsAt s k t = some (shw K k t, s) := by
  have a1 := hX.2.2.2.1
  have a2 := hK.1
  have b1 := hr.2.2.2 k h0 h1
  have b2 := hK.2.2.2 k h0 h1
  have b3 := hr.2.2.1 k t h0 h1 h2 h3
  have b4 := hK.2.2.1 k t h0 h1 h2 h3
  have b5 := b4.2.2 h3
  have key : ∀ y : Int, (y = -2 ∨ (-300 ≤ y ∧ y ≤ kMi K)) → (if nrm y < 0 then some ((-2 : Int), s) else bt_ (f_X8_isTurned s k t) fun v4 s3 => if ¬ nrm v4 = 0 then some (-2, s3) else bt_ (f_X8_isTurned s3 k y) fun v6 s5 => if nrm v6 = 0 then some (nrm y, s5) else some (-2, s5)) = some (if kU K k t = 0 ∧ 0 ≤ y ∧ kU K k y = 0 then y else -2, s) := by
    intro y hy
    rw [nrm_i (z := y) (by omega) (by omega)]
    by_cases hy0 : y < 0
    · rw [if_pos hy0, if_neg (by omega)]
    · rw [if_neg hy0, t_isTurned hr hK h0 h1 hX h2 h3, btS]
      rcases b4.2.1 with e | e
      · rw [e, if_neg (by decide), t_isTurned hr hK h0 h1 hX (by omega) (by omega), btS]
        rcases (hK.2.2.1 k y h0 h1 (by omega) (by omega)).2.1 with e2 | e2
        · rw [e2, if_pos (by decide), if_pos (by omega)]
        · rw [e2, if_neg (by decide), if_neg (by omega)]
      · rw [e, if_pos (by decide), if_neg (by omega)]
  unfold f_X8_showsAt shw
  rw [ta58 (by omega) (by omega), obS, jnS, jnS, b1.1, obS]
  by_cases hb : kB K k = 300
  · have hu : sh0 K k t = t - kL K k t := by unfold sh0; rw [if_neg (by omega)]
    rw [if_pos hb, if_pos rfl, hu]
    dsimp only
    rw [ta56 (by omega) (by omega), obS, b3.2.2 h3]
    exact key _ (by omega)
  · rw [if_neg hb, nrm_i (by omega) (by omega), if_neg (by rw [nrm_i (by decide) (by decide)]; omega), nrm_i (by omega) (by omega)]
    by_cases hc : t < kB K k
    · have hu : sh0 K k t = t - kL K k t := by unfold sh0; rw [if_neg (by omega)]
      rw [if_pos hc, hu]
      dsimp only
      rw [ta56 (by omega) (by omega), obS, b3.2.2 h3]
      exact key _ (by omega)
    · have hu : sh0 K k t = kF K k := by unfold sh0; rw [if_pos (by omega)]
      rw [if_neg hc, ta59 (by omega) (by omega), obS, b1.2, hu]
      exact key _ (by omega)
theorem t_hungIn {q : Int} (hX : WfX X) (hr : RepQ q s X K) (hK : WfQ q X K) {k t : Int} (h0 : 0 ≤ k) (h1 : k < xK X) (h2 : 0 ≤ t) (h3 : t ≤ kMi K) : f_X8_hungIn s k t = some (kH K k t, s) := by
  have a1 := hX.2.2.2.1
  have a2 := hK.1
  unfold f_X8_hungIn
  rw [ta56 (by omega) (by omega), obS, (hr.2.2.1 k t h0 h1 h2 h3).1]
theorem t_menShown {q : Int} (hX : WfX X) (hs : RepX s X) (hr : RepQ q s X K) (hK : WfQ q X K) {k t : Int} (h0 : 0 ≤ k) (h1 : k < xK X) (h2 : t = -2 ∨ 0 ≤ t) (h3 : t ≤ kMi K) : f_X8_menShown s k t = some (if 0 ≤ t then (mIn X K (kH K k t) t : Int) else 0, s) := by
  have a2 := hK.1
  have a0 := hX.1
  unfold f_X8_menShown
  rw [nrm_i (by omega) (by omega)]
  rcases h2 with e | e
  · rw [if_neg (by omega), if_neg (by omega)]
  · have := (hK.2.2.1 k t h0 h1 e h3).1
    rw [if_pos e, if_pos e, t_hungIn hX hr hK h0 h1 e h3, btS, t_menIn hX hs hr hK (by omega) (by omega) e h3, btS]
/-- where the doors of a room lead, of the first n doors -/
def dl (X : Txt) (r : Int) : Nat → List Int
  | 0 => []
  | n + 1 => dl X r n ++ (if xF X n = r then [xT X n] else if xT X n = r then [xF X n] else [])
def wys (X : Txt) (r : Int) : Int := ((dl X r (xD X).toNat).length : Nat)
def thr1 (X : Txt) (r k : Int) : Int := (dl X r (xD X).toNat).getD (k - 1).toNat r
theorem dl_len (X : Txt) (r : Int) : ∀ n : Nat, (dl X r n).length ≤ n := by
  intro n
  induction n with
  | zero => exact Nat.le_refl _
  | succ n ih =>
    rw [dl, List.length_append]
    split
    · simp; omega
    · split
      · simp; omega
      · simp; omega
theorem dl_pre (X : Txt) (r : Int) (a b : Nat) : ∃ l : List Int, dl X r (a + b) = dl X r a ++ l := by
  induction b with
  | zero => exact ⟨[], by simp⟩
  | succ b ih =>
    obtain ⟨l, h⟩ := ih
    exact ⟨l ++ (if xF X (a + b : Nat) = r then [xT X (a + b : Nat)] else if xT X (a + b : Nat) = r then [xF X (a + b : Nat)] else []), by rw [show a + (b + 1) = (a + b) + 1 from rfl, dl, h, List.append_assoc]⟩
theorem wys_le (hX : WfX X) (r : Int) : 0 ≤ wys X r ∧ wys X r ≤ 12 := by
  have := dl_len X r (xD X).toNat
  have := hX.2.1
  unfold wys
  omega
theorem t_waysOf (hX : WfX X) (hs : RepX s X) {r : Int} (hr0 : -2147483648 ≤ r) (hr1 : r ≤ 2147483647) : f_X8_waysOf s r = some (wys X r, s) := by
  have a1 := hX.2.1
  have a0 := hX.1
  have a3 := hs.1
  unfold f_X8_waysOf wys
  refine loop (S := Int × Int) (fun n q => f_X8_waysOf_L4 n s r q.1 q.2 (fun s7 x2 => some (nrm x2, s7))) (· = some ((((dl X r (xD X).toNat).length : Nat) : Int), s)) (fun i q => q = (((dl X r i).length : Int), (i : Int))) (xD X).toNat ?_ ?_ (xD X).toNat 0 FU (0, 0) (by omega) (by rw [FU_eq]; omega) rfl
  · rintro n i ⟨a, b⟩ hi he
    cases he
    refine Or.inr ⟨((dl X r (i + 1)).length, ((i + 1 : Nat) : Int)), ?_, rfl⟩
    have hw := hs.2.2.1 i (by omega) (by omega)
    have hw2 := hX.2.2.2.2.2.2.1 i (by omega) (by omega)
    show f_X8_waysOf_L4 (n + 1) s r _ _ _ = f_X8_waysOf_L4 n s r _ _ _
    rw [f_X8_waysOf_L4, ta25 (by omega) (by omega), obS, hs.2.1.2.1, nrm_i (by omega) (by omega), nrm_i (by omega) (by omega), if_neg (by omega), ta26 (by omega) (by omega), obS, hw.1, nrm_i (by omega) (by omega), nrm_i hr0 hr1, ta27 (by omega) (by omega), obS, hw.2, nrm_i (by omega) (by omega), dl]
    by_cases h : xF X i = r
    · rw [if_pos h, if_pos h, List.length_append]
      rfl
    · rw [if_neg h, if_neg h]
      by_cases h2 : xT X i = r
      · rw [if_neg (by omega), if_pos h2, List.length_append]
        rfl
      · rw [if_pos h2, if_neg h2, List.append_nil]
        rfl
  · rintro n ⟨a, b⟩ he
    cases he
    show f_X8_waysOf_L4 (n + 1) s r _ _ _ = _
    have hl := dl_len X r (xD X).toNat
    rw [f_X8_waysOf_L4, ta25 (by omega) (by omega), obS, hs.2.1.2.1, nrm_i (z := xD X) (by omega) (by omega), nrm_i (z := (((xD X).toNat : Nat) : Int)) (by omega) (by omega), if_pos (by omega)]
    show some (nrm (((dl X r (xD X).toNat).length : Nat) : Int), s) = _
    rw [nrm_i (by omega) (by omega)]
theorem t_through (hX : WfX X) (hs : RepX s X) {r k : Int} (hr0 : -2147483648 ≤ r) (hr1 : r ≤ 2147483647) (hk : 1 ≤ k) (hk1 : k ≤ wys X r) : f_X8_through s r k = some (thr1 X r k, s) := by
  have a1 := hX.2.1
  have a0 := hX.1
  have a3 := hs.1
  have a4 := wys_le hX r
  unfold f_X8_through
  refine loop (S := Int × Int) (fun n q => f_X8_through_L5 n s r k q.1 q.2 (fun s10 x1 => some (nrm x1, s10))) (· = some (thr1 X r k, s)) (fun i q => q = (((dl X r i).length : Int), (i : Int)) ∧ ((dl X r i).length : Int) < k) (xD X).toNat ?_ ?_ (xD X).toNat 0 FU (0, 0) (by omega) (by rw [FU_eq]; omega) ⟨rfl, by show ((0 : Nat) : Int) < k; omega⟩
  · rintro n i ⟨a, b⟩ hi ⟨he, hlt⟩
    cases he
    have hw := hs.2.2.1 i (by omega) (by omega)
    have hw2 := hX.2.2.2.2.2.2.1 i (by omega) (by omega)
    have hlen := dl_len X r i
    have e1 : f_X8_through_L5 (n + 1) s r k ((dl X r i).length : Int) (i : Int) (fun s10 x1 => some (nrm x1, s10)) = (if xF X i = r ∨ xT X i = r then (if ¬ ((dl X r i).length : Int) + 1 = k then f_X8_through_L5 n s r k (((dl X r i).length : Int) + 1) ((i : Int) + 1) (fun s10 x1 => some (nrm x1, s10)) else if ¬ xF X i = r then some (xF X i, s) else some (xT X i, s)) else f_X8_through_L5 n s r k ((dl X r i).length : Int) ((i : Int) + 1) (fun s10 x1 => some (nrm x1, s10))) := by
      rw [f_X8_through_L5, ta25 (by omega) (by omega), obS, hs.2.1.2.1, nrm_i (by omega) (by omega), nrm_i (by omega) (by omega), if_neg (by omega), ta26 (by omega) (by omega), obS, hw.1, ta27 (by omega) (by omega), obS, hw.2, jnS]
      dsimp only
      rw [nrm_i (z := xF X i) (by omega) (by omega), nrm_i (z := xT X i) (by omega) (by omega), nrm_i hr0 hr1, nrm_i (z := ((dl X r i).length : Int) + 1) (by omega) (by omega), nrm_i (z := k) (by omega) (by omega)]
      by_cases h : xF X i = r
      · rw [if_pos h, if_pos (Or.inl h)]
      · rw [if_neg h]
        by_cases h2 : xT X i = r
        · rw [if_pos h2, if_pos (Or.inr h2)]
        · rw [if_neg h2, if_neg (by omega)]
    dsimp only
    rw [e1]
    by_cases h : xF X i = r ∨ xT X i = r
    · rw [if_pos h]
      have e2 : dl X r (i + 1) = dl X r i ++ [if xF X i = r then xT X i else xF X i] := by
        rw [dl]
        by_cases h1 : xF X i = r
        · rw [if_pos h1, if_pos h1]
        · rw [if_neg h1, if_neg h1, if_pos (by omega)]
      have e3 : (dl X r (i + 1)).length = (dl X r i).length + 1 := by rw [e2, List.length_append]; rfl
      by_cases hn : ((dl X r i).length : Int) + 1 = k
      · left
        rw [if_neg (by omega)]
        obtain ⟨l, hl⟩ := dl_pre X r (i + 1) ((xD X).toNat - (i + 1))
        have e4 : thr1 X r k = if xF X i = r then xT X i else xF X i := by
          unfold thr1
          rw [show (xD X).toNat = (i + 1) + ((xD X).toNat - (i + 1)) by omega, hl, e2, List.append_assoc, show (k - 1).toNat = (dl X r i).length by omega, List.getD_eq_getElem?_getD, List.getElem?_append_right (Nat.le_refl _), Nat.sub_self]
          rfl
        rw [e4]
        by_cases h1 : xF X i = r
        · rw [if_neg (by omega), if_pos h1]
        · rw [if_pos h1, if_neg h1]
      · right
        rw [if_pos hn]
        exact ⟨(((dl X r (i + 1)).length : Int), ((i + 1 : Nat) : Int)), by rw [e3]; rfl, rfl, by rw [e3]; omega⟩
    · right
      rw [if_neg h]
      have e2 : dl X r (i + 1) = dl X r i := by rw [dl, if_neg (by omega), if_neg (by omega), List.append_nil]
      exact ⟨(((dl X r (i + 1)).length : Int), ((i + 1 : Nat) : Int)), by rw [e2]; rfl, rfl, by rw [e2]; omega⟩
  · rintro n ⟨a, b⟩ ⟨he, hlt⟩
    exfalso
    unfold wys at hk1
    omega
end
/-! ===== what changes ===== -/
def chg (ks fs : List Int) (s s' : TW) : Prop := (∀ k : Int, k ∉ ks → s'.2 k = s.2 k) ∧ ∀ k : Int, k ∉ fs → s'.1 k = s.1 k
theorem chg.rf (ks fs : List Int) (s : TW) : chg ks fs s s := ⟨fun _ _ => rfl, fun _ _ => rfl⟩
theorem chg.tr {ks fs : List Int} {a b c : TW} (h : chg ks fs a b) (g : chg ks fs b c) : chg ks fs a c := ⟨fun k hk => (g.1 k hk).trans (h.1 k hk), fun k hk => (g.2 k hk).trans (h.2 k hk)⟩
theorem chg.up {ks fs ks' fs' : List Int} {a b : TW} (h : chg ks fs a b) (h1 : ∀ k ∈ ks, k ∈ ks') (h2 : ∀ k ∈ fs, k ∈ fs') : chg ks' fs' a b := ⟨fun k hk => h.1 k fun q => hk (h1 k q), fun k hk => h.2 k fun q => hk (h2 k q)⟩
theorem tst_ne (s : TW) {k j : Int} (i v : Int) (h : j ≠ k) : (tst s k i v).2 j = s.2 j := by
  show fu s.2 k _ j = _
  unfold fu
  rw [if_neg h]
theorem tst_eq (s : TW) (k i v : Int) : (tst s k i v).2 k = fu (s.2 k) i v := by
  show fu s.2 k _ k = _
  unfold fu
  rw [if_pos rfl]
theorem tst_f (s : TW) (k i v : Int) : (tst s k i v).1 = s.1 := rfl
theorem tp_a (s : TW) (k v : Int) : (tp s k v).2 = s.2 := rfl
theorem tp_ne (s : TW) {k j : Int} (v : Int) (h : j ≠ k) : (tp s k v).1 j = s.1 j := by
  show fu s.1 k v j = _
  unfold fu
  rw [if_neg h]
theorem tp_eq (s : TW) (k v : Int) : (tp s k v).1 k = v := by
  show fu s.1 k v k = _
  unfold fu
  rw [if_pos rfl]
theorem fuE {α : Type} (f : Int → α) (i : Int) (v : α) : fu f i v i = v := by unfold fu; rw [if_pos rfl]
theorem fuN {α : Type} (f : Int → α) {i j : Int} (v : α) (h : j ≠ i) : fu f i v j = f j := by unfold fu; rw [if_neg h]
theorem chg.ts {ks fs : List Int} {s a : TW} (h : chg ks fs s a) {k : Int} (hk : k ∈ ks) (i v : Int) : chg ks fs s (tst a k i v) :=
  ⟨fun j hj => (tst_ne a i v (fun e => hj (by rw [e]; exact hk))).trans (h.1 j hj), h.2⟩
theorem chg.tp {ks fs : List Int} {s a : TW} (h : chg ks fs s a) {k : Int} (hk : k ∈ fs) (v : Int) : chg ks fs s (tp a k v) :=
  ⟨h.1, fun j hj => (tp_ne a v (fun e => hj (by rw [e]; exact hk))).trans (h.2 j hj)⟩
theorem chg.text {ks fs : List Int} {s s' : TW} (h : chg ks fs s s') (h1 : ∀ k ∈ ks, k < 24 ∨ 46 < k) (h2 : (18 : Int) ∉ fs) : sameText s s' :=
  ⟨h.2 18 h2, fun k a b => h.1 k fun q => by rcases h1 k q with c | c <;> omega⟩
