set_option maxRecDepth 100000
/-! ===== PURE: loops that may end early ===== -/
def itE {α γ : Type} (g : Nat → α → α ⊕ γ) : Nat → Nat → α → α ⊕ γ
  | _, 0, a => .inl a
  | i, n + 1, a => match g i a with
    | .inl a' => itE g (i + 1) n a'
    | .inr v => .inr v
theorem loopE {α γ β : Type} (f : Nat → α → Int → Option β) (k : α → Option β) (r : γ → Option β) (g : Nat → α → α ⊕ γ) (P : Nat → α → Prop) (N : Nat) (b : Int)
    (step : ∀ (n i : Nat) (a : α), i < N → P i a → f (n + 1) a (b + i) = (match g i a with | .inl a' => f n a' (b + i + 1) | .inr v => r v) ∧ ∀ a', g i a = .inl a' → P (i + 1) a')
    (fin : ∀ (n : Nat) (a : α), P N a → f (n + 1) a (b + N) = k a) : ∀ (j i n : Nat) (a : α), i + j = N → j < n → P i a → f n a (b + i) = (match itE g i j a with | .inl a' => k a' | .inr v => r v) ∧ ∀ a', itE g i j a = .inl a' → P N a' := by
  intro j
  induction j with
  | zero =>
    intro i n a hi hn hP
    obtain ⟨n, rfl⟩ : ∃ q, n = q + 1 := ⟨n - 1, by omega⟩
    have : i = N := by omega
    subst this
    exact ⟨fin n a hP, fun a' h => by cases h; exact hP⟩
  | succ j ih =>
    intro i n a hi hn hP
    obtain ⟨n, rfl⟩ : ∃ q, n = q + 1 := ⟨n - 1, by omega⟩
    obtain ⟨e, h⟩ := step n i a (by omega) hP
    rw [e, itE]
    cases hg : g i a with
    | inl a' =>
      dsimp only
      have := ih (i + 1) n a' (by omega) (by omega) (h a' hg)
      rw [show b + ((i + 1 : Nat) : Int) = b + i + 1 by omega] at this
      exact this
    | inr v => exact ⟨rfl, fun a' h => by cases h⟩
/-- from the start -/
theorem loop0 {α γ β : Type} (f : Nat → α → Int → Option β) (k : α → Option β) (r : γ → Option β) (g : Nat → α → α ⊕ γ) (P : Nat → α → Prop) (N : Nat) (b : Int) {fl : Nat} (hN : N < fl) {a0 : α} (h0 : P 0 a0)
    (step : ∀ (n i : Nat) (a : α), i < N → P i a → f (n + 1) a (b + i) = (match g i a with | .inl a' => f n a' (b + i + 1) | .inr v => r v) ∧ ∀ a', g i a = .inl a' → P (i + 1) a')
    (fin : ∀ (n : Nat) (a : α), P N a → f (n + 1) a (b + N) = k a) : f fl a0 b = (match itE g 0 N a0 with | .inl a' => k a' | .inr v => r v) ∧ ∀ a', itE g 0 N a0 = .inl a' → P N a' := by
  have := loopE f k r g P N b step fin N 0 fl a0 (by omega) hN h0
  rw [show b + ((0 : Nat) : Int) = b by omega] at this
  exact this
/-! no early end -/
def itr {α : Type} (g : Nat → α → α) : Nat → α → α
  | 0, a => a
  | n + 1, a => g n (itr g n a)
theorem loopI {α β : Type} (f : Nat → α → Int → Option β) (k : α → Option β) (g : Nat → α → α) (P : Nat → α → Prop) (N : Nat) (b : Int) {fl : Nat} (hN : N < fl) {a0 : α} (h0 : P 0 a0)
    (step : ∀ (n i : Nat) (a : α), i < N → P i a → f (n + 1) a (b + i) = f n (g i a) (b + i + 1) ∧ P (i + 1) (g i a))
    (fin : ∀ (n : Nat) (a : α), P N a → f (n + 1) a (b + N) = k a) : f fl a0 b = k (itr g N a0) ∧ P N (itr g N a0) := by
  have key : ∀ j i n : Nat, i + j = N → j < n → P i (itr g i a0) → f n (itr g i a0) (b + i) = k (itr g N a0) ∧ P N (itr g N a0) := by
    intro j
    induction j with
    | zero =>
      intro i n hi hn hP
      obtain ⟨n, rfl⟩ : ∃ q, n = q + 1 := ⟨n - 1, by omega⟩
      have : i = N := by omega
      subst this
      exact ⟨fin n _ hP, hP⟩
    | succ j ih =>
      intro i n hi hn hP
      obtain ⟨n, rfl⟩ : ∃ q, n = q + 1 := ⟨n - 1, by omega⟩
      obtain ⟨e, h⟩ := step n i _ (by omega) hP
      rw [e]
      have := ih (i + 1) n (by omega) (by omega) h
      rw [show b + ((i + 1 : Nat) : Int) = b + i + 1 by omega] at this
      exact this
  have := key N 0 fl (by omega) hN h0
  rw [show b + ((0 : Nat) : Int) = b by omega] at this
  exact this
/-- the first one -/
def fnd (P : Nat → Bool) : Nat → Nat → Option Nat
  | _, 0 => none
  | i, n + 1 => if P i then some i else fnd P (i + 1) n
theorem loopF {β : Type} (f : Nat → Int → Option β) (k : Option β) (r : Nat → Option β) (P : Nat → Bool) (N : Nat) (b : Int) {fl : Nat} (hN : N < fl)
    (step : ∀ (n i : Nat), i < N → f (n + 1) (b + i) = if P i then r i else f n (b + i + 1))
    (fin : ∀ (n : Nat), f (n + 1) (b + N) = k) : f fl b = match fnd P 0 N with | some i => r i | none => k := by
  have key : ∀ j i n : Nat, i + j = N → j < n → f n (b + i) = match fnd P i j with | some i => r i | none => k := by
    intro j
    induction j with
    | zero =>
      intro i n hi hn
      obtain ⟨n, rfl⟩ : ∃ q, n = q + 1 := ⟨n - 1, by omega⟩
      have : i = N := by omega
      subst this
      exact fin n
    | succ j ih =>
      intro i n hi hn
      obtain ⟨n, rfl⟩ : ∃ q, n = q + 1 := ⟨n - 1, by omega⟩
      rw [step n i (by omega), fnd]
      by_cases h : P i = true
      · rw [if_pos h, if_pos h]
      · rw [if_neg h, if_neg h]
        have := ih (i + 1) n (by omega) (by omega)
        rw [show b + ((i + 1 : Nat) : Int) = b + i + 1 by omega] at this
        exact this
  have := key N 0 fl (by omega) hN
  rw [show b + ((0 : Nat) : Int) = b by omega] at this
  exact this
theorem n_P (x : Nat) : nrm (pcn x) = pcn x := by
  have := pcn_in x
  exact nrm_i (by omega) (by omega)
/-! ===== the twin at work ===== -/
def TI (s : TW) (X : Txt) (K : Crt) : Prop := WfX X ∧ RepX s X ∧ RepW s X K ∧ WfK X K
def TQ (s : TW) (X : Txt) (K : Crt) : Prop := WfX X ∧ RepX s X ∧ RepN s X K ∧ WfK X K
abbrev qk : List Int := [49, 50, 56, 58, 59, 63, 64, 65, 66]
abbrev qf : List Int := [51, 57, 60]
section
variable {s : TW} {X : Txt} {K : Crt} {β : Type}
theorem TI.mi (J : TI s X K) : s.1 57 = kMi K := J.2.2.1.1
theorem TQ.mi (J : TQ s X K) : s.1 53 = kMi K := J.2.2.1.1
theorem TQ.copies (J : TQ s X K) : ∃ s' : TW, f_X8_copies s = some ((), s') ∧ TI s' X K ∧ s'.1 60 = xS X ∧ chg [56, 58, 59] [57, 60] s s' := by
  obtain ⟨s', e, h1, h2, h3⟩ := t_copies J.1 J.2.1 J.2.2.1 J.2.2.2
  exact ⟨s', e, ⟨J.1, J.2.1.same (h3.text (by decide) (by decide)), h1, J.2.2.2⟩, h2, h3⟩
theorem tb_menIn (J : TI s X K) {r t : Int} (hr0 : -2147483648 ≤ r) (hr1 : r ≤ 2147483647) (h2 : 0 ≤ t) (h3 : t ≤ kMi K) (f : Int → TW → Option β) : bt_ (f_X8_menIn s r t) f = f (mIn X K r t : Int) s := btP (t_menIn J.1 J.2.1 J.2.2.1 J.2.2.2 hr0 hr1 h2 h3) f
theorem tb_showsAt (J : TI s X K) {k t : Int} (h0 : 0 ≤ k) (h1 : k < xK X) (h2 : 0 ≤ t) (h3 : t ≤ kMi K) (f : Int → TW → Option β) : bt_ (f_X8_showsAt s k t) f = f (shw K k t) s := btP (t_showsAt J.1 J.2.2.1 J.2.2.2 h0 h1 h2 h3) f
theorem tb_hungIn (J : TI s X K) {k t : Int} (h0 : 0 ≤ k) (h1 : k < xK X) (h2 : 0 ≤ t) (h3 : t ≤ kMi K) (f : Int → TW → Option β) : bt_ (f_X8_hungIn s k t) f = f (kH K k t) s := btP (t_hungIn J.1 J.2.2.1 J.2.2.2 h0 h1 h2 h3) f
theorem tb_isTurned (J : TI s X K) {k t : Int} (h0 : 0 ≤ k) (h1 : k < xK X) (h2 : 0 ≤ t) (h3 : t ≤ kMi K) (f : Int → TW → Option β) : bt_ (f_X8_isTurned s k t) f = f (kU K k t) s := btP (t_isTurned J.2.2.1 J.2.2.2 h0 h1 J.1 h2 h3) f
/-- whom a mirror shows at a minute -/
theorem tb_menShown (J : TI s X K) {k t : Int} (h0 : 0 ≤ k) (h1 : k < xK X) (h2 : 0 ≤ t) (h3 : t ≤ kMi K) (f : Int → TW → Option β) : bt_ (f_X8_menShown s k (shw K k t)) f = f (mSh X K k t : Int) s := by
  have hs := shw_le J.2.2.2 h0 h1 h2 h3
  have hm := J.2.2.2.1
  refine btP ?_ f
  rw [t_menShown J.1 J.2.1 J.2.2.1 J.2.2.2 h0 h1 (by omega) (by omega)]
  unfold mSh
  by_cases h : 0 ≤ shw K k t
  · rw [if_pos h, if_pos h]
  · rw [if_neg h, if_neg h]; rfl
/-- as it shows a minute -/
theorem tb_menShown2 (J : TI s X K) {k t : Int} (h0 : 0 ≤ k) (h1 : k < xK X) (h2 : 0 ≤ t) (h3 : t ≤ kMi K) (f : Int → TW → Option β) : bt_ (f_X8_menShown s k t) f = f (mIn X K (kH K k t) t : Int) s := by
  refine btP ?_ f
  rw [t_menShown J.1 J.2.1 J.2.2.1 J.2.2.2 h0 h1 (by omega) (by omega), if_pos h2]
theorem tb_bits {x : Nat} (hx : x < 256) (f : Int → TW → Option β) : bt_ (f_X8_bits s (x : Int)) f = f (pcn x) s := btP (t_bits s x hx) f
theorem w_W (J : TI s X K) {m t : Int} (b0 : 0 ≤ m) (b1 : m < xM X) (b2 : 0 ≤ t) (b3 : t ≤ kMi K) : s.2 56 (36 * t + m) = kW K m t := (J.2.2.1.2.1 m t b0 b1 b2 b3).1
theorem w_R (J : TI s X K) {m t : Int} (b0 : 0 ≤ m) (b1 : m < xM X) (b2 : 0 ≤ t) (b3 : t ≤ kMi K) : s.2 56 (36 * t + 6 + m) = kR K m t := (J.2.2.1.2.1 m t b0 b1 b2 b3).2
theorem w_L (J : TI s X K) {k t : Int} (b0 : 0 ≤ k) (b1 : k < xK X) (b2 : 0 ≤ t) (b3 : t ≤ kMi K) : s.2 56 (36 * t + 28 + k) = kL K k t := (J.2.2.1.2.2.1 k t b0 b1 b2 b3).2.2 b3
theorem w_B (J : TI s X K) {k : Int} (b0 : 0 ≤ k) (b1 : k < xK X) : s.2 58 k = if kB K k = 300 then -1 else kB K k := (J.2.2.1.2.2.2 k b0 b1).1
theorem p_W (J : TQ s X K) {m t : Int} (b0 : 0 ≤ m) (b1 : m < xM X) (b2 : 0 ≤ t) (b3 : t ≤ kMi K) : s.2 52 (36 * t + m) = kW K m t := (J.2.2.1.2.1 m t b0 b1 b2 b3).1
theorem p_R (J : TQ s X K) {m t : Int} (b0 : 0 ≤ m) (b1 : m < xM X) (b2 : 0 ≤ t) (b3 : t ≤ kMi K) : s.2 52 (36 * t + 6 + m) = kR K m t := (J.2.2.1.2.1 m t b0 b1 b2 b3).2
theorem p_B (J : TQ s X K) {k : Int} (b0 : 0 ≤ k) (b1 : k < xK X) : s.2 54 k = if kB K k = 300 then -1 else kB K k := (J.2.2.1.2.2.2 k b0 b1).1
end
/-! ===== the component's ===== -/
section
variable {Z : Nat → Prop} {σ : Hp} {o r a : Nat} {X : Txt} {K : Crt} {β : Type}
/-- a court that is looked at -/
def CI (Z : Nat → Prop) (σ : Hp) (a r : Nat) (X : Txt) (K : Crt) : Prop := Csh σ a ∧ TxtAt Z σ r X ∧ Cat σ a X K ∧ WfX X ∧ WfK X K
theorem QI.ci (I : QI Z σ o r X K) : CI Z σ (o + 14) r X K := ⟨I.1.court, I.2.1, I.2.2.2.1, I.2.2.2.2.1, I.2.2.2.2.2⟩
theorem hb_shows (J : CI Z σ a r X K) {k t : Int} (h0 : 0 ≤ k) (h1 : k < xK X) (h2 : 0 ≤ t) (h3 : t ≤ kMi K) (f : Int → Hp → Option β) : bn (f_X5_shows σ a k t) f = f (shw K k t) σ := bnP (h_shows J.1 J.2.2.1 J.2.2.2.1 J.2.2.2.2 h0 h1 h2 h3) f
theorem hb_menIn (J : CI Z σ a r X K) {ro t : Int} (hr0 : -2147483648 ≤ ro) (hr1 : ro ≤ 2147483647) (h2 : 0 ≤ t) (h3 : t ≤ kMi K) (f : Int → Hp → Option β) : bn (f_X5_menIn σ a (some r) ro t) f = f (mIn X K ro t : Int) σ := bnP (h_menIn J.1 J.2.1 J.2.2.1 J.2.2.2.1 J.2.2.2.2 hr0 hr1 h2 h3) f
theorem hb_menShown (J : CI Z σ a r X K) {k t : Int} (h0 : 0 ≤ k) (h1 : k < xK X) (h2 : 0 ≤ t) (h3 : t ≤ kMi K) (f : Int → Hp → Option β) : bn (f_X5_menShown σ a (some r) k t) f = f (mSh X K k t : Int) σ := bnP (h_menShown J.1 J.2.1 J.2.2.1 J.2.2.2.1 J.2.2.2.2 h0 h1 h2 h3) f
theorem hb_isBroken (J : CI Z σ a r X K) {k t : Int} (h0 : 0 ≤ k) (h1 : k < xK X) (h2 : 0 ≤ t) (h3 : t ≤ 299) (f : Int → Hp → Option β) : bn (f_X5_isBroken σ a k t) f = f (if kB K k ≤ t then 1 else 0) σ := bnP (h_isBroken J.1 J.2.2.1 J.2.2.2.1 J.2.2.2.2 h0 h1 h2 h3) f
theorem hb_bits {x : Nat} (hx : x < 256) (f : Int → Hp → Option β) : bn (f_J8_bitCount σ (x : Int)) f = f (pcn x) σ := bnP (h_bits σ x hx) f
theorem cb_mi (J : CI Z σ a r X K) (f : Int → Option β) : (gI σ 5 (some a) 9).bind f = f (kMi K) := obP (by rw [c_g J.1, J.2.2.1.1.1]) f
theorem cb_W (J : CI Z σ a r X K) {m t : Int} (b0 : 0 ≤ m) (b1 : m < xM X) (b2 : 0 ≤ t) (b3 : t ≤ kMi K) (f : Int → Option β) : (aI σ 101 (some (a + 2 + m.toNat)) t).bind f = f (kW K m t) := by
  have := J.2.2.2.1.2.2.1
  have := J.2.2.2.2.1
  exact obP (by rw [c_a0 J.1 b0 (by omega) b2 (by omega), v_W J.2.2.1 b0 b1 b2 b3]) f
theorem cb_R (J : CI Z σ a r X K) {m t : Int} (b0 : 0 ≤ m) (b1 : m < xM X) (b2 : 0 ≤ t) (b3 : t ≤ kMi K) (f : Int → Option β) : (aI σ 101 (some (a + 9 + m.toNat)) t).bind f = f (kR K m t) := by
  have := J.2.2.2.1.2.2.1
  have := J.2.2.2.2.1
  exact obP (by rw [c_a1 J.1 b0 (by omega) b2 (by omega), v_R J.2.2.1 b0 b1 b2 b3]) f
theorem cb_H (J : CI Z σ a r X K) {k t : Int} (b0 : 0 ≤ k) (b1 : k < xK X) (b2 : 0 ≤ t) (b3 : t ≤ kMi K) (f : Int → Option β) : (aI σ 101 (some (a + 16 + k.toNat)) t).bind f = f (kH K k t) := by
  have := J.2.2.2.1.2.2.2.1
  have := J.2.2.2.2.1
  exact obP (by rw [c_a2 J.1 b0 (by omega) b2 (by omega), v_H J.2.2.1 b0 b1 b2 b3]) f
theorem cb_U (J : CI Z σ a r X K) {k t : Int} (b0 : 0 ≤ k) (b1 : k < xK X) (b2 : 0 ≤ t) (b3 : t ≤ kMi K) (f : Int → Option β) : (aI σ 102 (some (a + 25 + k.toNat)) t).bind f = f (kU K k t) := by
  have := J.2.2.2.1.2.2.2.1
  have := J.2.2.2.2.1
  exact obP (by rw [c_a3 J.1 b0 (by omega) b2 (by omega), v_U J.2.2.1 b0 b1 b2 b3]) f
theorem cb_L (J : CI Z σ a r X K) {k t : Int} (b0 : 0 ≤ k) (b1 : k < xK X) (b2 : 0 ≤ t) (b3 : t ≤ kMi K) (f : Int → Option β) : (aI σ 103 (some (a + 34 + k.toNat)) t).bind f = f (kL K k t) := by
  have := J.2.2.2.1.2.2.2.1
  have := J.2.2.2.2.1
  exact obP (by rw [c_a4 J.1 b0 (by omega) b2 (by omega), v_L J.2.2.1 b0 b1 b2 b3]) f
end
section
variable {s : TW} {X : Txt} {K : Crt} {β : Type}
theorem tz_R (hs : RepX s X) (f : Int → Option β) : (ta s 24 (s.1 18)).bind f = f (xR X) := by have := hs.1; exact obP (by rw [ta24 (by omega) (by omega), hs.2.1.1]) f
theorem tz_D (hs : RepX s X) (f : Int → Option β) : (ta s 25 (s.1 18)).bind f = f (xD X) := by have := hs.1; exact obP (by rw [ta25 (by omega) (by omega), hs.2.1.2.1]) f
theorem tz_M (hs : RepX s X) (f : Int → Option β) : (ta s 28 (s.1 18)).bind f = f (xM X) := by have := hs.1; exact obP (by rw [ta28 (by omega) (by omega), hs.2.1.2.2.1]) f
theorem tz_K (hs : RepX s X) (f : Int → Option β) : (ta s 31 (s.1 18)).bind f = f (xK X) := by have := hs.1; exact obP (by rw [ta31 (by omega) (by omega), hs.2.1.2.2.2.1]) f
theorem tv_W (J : TI s X K) {m t : Int} (b0 : 0 ≤ m) (b1 : m < xM X) (b2 : 0 ≤ t) (b3 : t ≤ kMi K) (f : Int → Option β) : (ta s 56 (36 * t + m)).bind f = f (kW K m t) := by
  have := J.1.2.2.1
  have := J.2.2.2.1
  exact obP (by rw [ta56 (by omega) (by omega), w_W J b0 b1 b2 b3]) f
theorem tv_L (J : TI s X K) {k t : Int} (b0 : 0 ≤ k) (b1 : k < xK X) (b2 : 0 ≤ t) (b3 : t ≤ kMi K) (f : Int → Option β) : (ta s 56 (36 * t + 28 + k)).bind f = f (kL K k t) := by
  have := J.1.2.2.2.1
  have := J.2.2.2.1
  exact obP (by rw [ta56 (by omega) (by omega), w_L J b0 b1 b2 b3]) f
theorem tv_B (J : TI s X K) {k : Int} (b0 : 0 ≤ k) (b1 : k < xK X) (f : Int → Option β) : (ta s 58 k).bind f = f (if kB K k = 300 then -1 else kB K k) := by
  have := J.1.2.2.2.1
  exact obP (by rw [ta58 (by omega) (by omega), w_B J b0 b1]) f
theorem pv_W (J : TQ s X K) {m t : Int} (b0 : 0 ≤ m) (b1 : m < xM X) (b2 : 0 ≤ t) (b3 : t ≤ kMi K) (f : Int → Option β) : (ta s 52 (36 * t + m)).bind f = f (kW K m t) := by
  have := J.1.2.2.1
  have := J.2.2.2.1
  exact obP (by rw [ta52 (by omega) (by omega), p_W J b0 b1 b2 b3]) f
theorem pv_R (J : TQ s X K) {m t : Int} (b0 : 0 ≤ m) (b1 : m < xM X) (b2 : 0 ≤ t) (b3 : t ≤ kMi K) (f : Int → Option β) : (ta s 52 (36 * t + 6 + m)).bind f = f (kR K m t) := by
  have := J.1.2.2.1
  have := J.2.2.2.1
  exact obP (by rw [ta52 (by omega) (by omega), p_R J b0 b1 b2 b3]) f
theorem pv_B (J : TQ s X K) {k : Int} (b0 : 0 ≤ k) (b1 : k < xK X) (f : Int → Option β) : (ta s 54 k).bind f = f (if kB K k = 300 then -1 else kB K k) := by
  have := J.1.2.2.2.1
  exact obP (by rw [ta54 (by omega) (by omega), p_B J b0 b1]) f
end
