set_option maxRecDepth 100000
set_option maxHeartbeats 1000000
/-! ===== PURE: the twin copies ===== -/
/-- (its name where another one hides it) -/
abbrev cg_ (ks fs : List Int) (s s' : TW) : Prop := chg ks fs s s'
/-- an array, from lo up to hi, holds g -/
def fil (s : TW) (k lo hi : Int) (g : Int → Int) : TW := (s.1, fu s.2 k (fun j => if lo ≤ j ∧ j < hi then g j else s.2 k j))
section
variable {s : TW} {β : Type}
theorem fil_f (s : TW) (k lo hi : Int) (g : Int → Int) : (fil s k lo hi g).1 = s.1 := rfl
theorem fil_ne (s : TW) {k k' : Int} (lo hi : Int) (g : Int → Int) (h : k' ≠ k) : (fil s k lo hi g).2 k' = s.2 k' := fuN _ _ h
theorem fil_eq (s : TW) (k lo hi : Int) (g : Int → Int) (j : Int) : (fil s k lo hi g).2 k j = if lo ≤ j ∧ j < hi then g j else s.2 k j := by
  show fu s.2 k _ k j = _
  rw [fuE]
theorem fil_in (s : TW) {k lo hi : Int} {g : Int → Int} {j : Int} (h0 : lo ≤ j) (h1 : j < hi) : (fil s k lo hi g).2 k j = g j := by rw [fil_eq, if_pos ⟨h0, h1⟩]
theorem fil_out (s : TW) {k lo hi : Int} {g : Int → Int} {j : Int} (h0 : j < lo ∨ hi ≤ j) : (fil s k lo hi g).2 k j = s.2 k j := by rw [fil_eq, if_neg (by omega)]
theorem fil_0 (s : TW) (k lo : Int) (g : Int → Int) : fil s k lo lo g = s := by
  refine Prod.ext rfl (funext fun k' => funext fun j => ?_)
  by_cases e : k' = k
  · subst e; exact fil_out s (by omega)
  · exact congrFun (fil_ne s _ _ _ e) j
theorem fil_s (s : TW) (k lo : Int) (g : Int → Int) {i : Int} (hi : 0 ≤ i) : tst (fil s k lo (lo + i) g) k (lo + i) (g (lo + i)) = fil s k lo (lo + i + 1) g := by
  refine Prod.ext rfl (funext fun k' => funext fun j => ?_)
  by_cases e : k' = k
  · subst e
    rw [tst_eq, fil_eq]
    by_cases ej : j = lo + i
    · rw [ej, fuE, if_pos (by omega)]
    · rw [fuN _ _ ej, fil_eq]
      by_cases c : lo ≤ j ∧ j < lo + i
      · rw [if_pos c, if_pos (by omega)]
      · rw [if_neg c, if_neg (by omega)]
  · rw [tst_ne _ _ _ e, fil_ne _ _ _ _ e, fil_ne _ _ _ _ e]
theorem fil_s2 (s : TW) (k1 k2 lo1 lo2 : Int) (g1 g2 : Int → Int) {i N : Int} (hi : 0 ≤ i) (hN : i < N) (hd : k1 ≠ k2 ∨ lo1 + N ≤ lo2) : tst (tst (fil (fil s k1 lo1 (lo1 + i) g1) k2 lo2 (lo2 + i) g2) k1 (lo1 + i) (g1 (lo1 + i))) k2 (lo2 + i) (g2 (lo2 + i)) = fil (fil s k1 lo1 (lo1 + i + 1) g1) k2 lo2 (lo2 + i + 1) g2 := by
  rw [← fil_s s k1 lo1 g1 hi, ← fil_s _ k2 lo2 g2 hi]
  have e : tst (fil (fil s k1 lo1 (lo1 + i) g1) k2 lo2 (lo2 + i) g2) k1 (lo1 + i) (g1 (lo1 + i)) = fil (tst (fil s k1 lo1 (lo1 + i) g1) k1 (lo1 + i) (g1 (lo1 + i))) k2 lo2 (lo2 + i) g2 := by
    refine Prod.ext rfl (funext fun k' => funext fun j => ?_)
    by_cases e2 : k' = k2
    · subst e2
      rw [fil_eq]
      by_cases e1 : k1 = k'
      · subst e1
        rw [tst_eq]
        by_cases ej : j = lo1 + i
        · rw [ej, fuE, if_neg (by omega), tst_eq, fuE]
        · rw [fuN _ _ ej, fil_eq, tst_eq, fuN _ _ ej]
      · rw [tst_ne _ _ _ (fun h => e1 h.symm), tst_ne _ _ _ (fun h => e1 h.symm), fil_eq]
    · rw [fil_ne _ _ _ _ e2]
      by_cases e1 : k' = k1
      · subst e1
        rw [tst_eq, tst_eq, fil_ne _ _ _ _ e2]
      · rw [tst_ne _ _ _ e1, tst_ne _ _ _ e1, fil_ne _ _ _ _ e2]
  rw [e]
theorem chg.fil {ks fs : List Int} {a b : TW} (h : chg ks fs a b) {k : Int} (hk : k ∈ ks) (lo hi : Int) (g : Int → Int) : chg ks fs a (fil b k lo hi g) :=
  ⟨fun k' hk' => (fil_ne b _ _ _ (fun e : k' = k => hk' (by rw [e]; exact hk))).trans (h.1 k' hk'), h.2⟩
theorem loopC (f : Nat → TW → Int → Option β) (c : TW → Option β) (s : TW) (k lo b : Int) (g : Int → Int) (N : Nat) {fl : Nat} (hN : N < fl)
    (step : ∀ (n i : Nat), i < N → f (n + 1) (fil s k lo (lo + i) g) (b + i) = f n (tst (fil s k lo (lo + i) g) k (lo + i) (g (lo + i))) (b + i + 1))
    (fin : ∀ n : Nat, f (n + 1) (fil s k lo (lo + N) g) (b + N) = c (fil s k lo (lo + N) g)) : f fl s b = c (fil s k lo (lo + N) g) := by
  have key := loopI f c (fun i a => tst a k (lo + i) (g (lo + i))) (fun i a => a = fil s k lo (lo + i) g) N b hN (a0 := s) (by rw [show lo + ((0 : Nat) : Int) = lo by omega, fil_0]) (fun n i a hi ha => ?_) (fun n a ha => ?_)
  · rw [key.1, key.2]
  · rw [ha]
    refine ⟨step n i hi, ?_⟩
    rw [fil_s s k lo g (by omega), show lo + (i : Int) + 1 = lo + ((i + 1 : Nat) : Int) by omega]
  · rw [ha]
    exact fin n
theorem loopC2 (f : Nat → TW → Int → Option β) (c : TW → Option β) (s : TW) (k1 k2 lo1 lo2 b : Int) (g1 g2 : Int → Int) (N : Nat) {fl : Nat} (hN : N < fl) (hd : k1 ≠ k2 ∨ lo1 + N ≤ lo2)
    (step : ∀ (n i : Nat), i < N → f (n + 1) (fil (fil s k1 lo1 (lo1 + i) g1) k2 lo2 (lo2 + i) g2) (b + i) = f n (tst (tst (fil (fil s k1 lo1 (lo1 + i) g1) k2 lo2 (lo2 + i) g2) k1 (lo1 + i) (g1 (lo1 + i))) k2 (lo2 + i) (g2 (lo2 + i))) (b + i + 1))
    (fin : ∀ n : Nat, f (n + 1) (fil (fil s k1 lo1 (lo1 + N) g1) k2 lo2 (lo2 + N) g2) (b + N) = c (fil (fil s k1 lo1 (lo1 + N) g1) k2 lo2 (lo2 + N) g2)) : f fl s b = c (fil (fil s k1 lo1 (lo1 + N) g1) k2 lo2 (lo2 + N) g2) := by
  have key := loopI f c (fun i a => tst (tst a k1 (lo1 + i) (g1 (lo1 + i))) k2 (lo2 + i) (g2 (lo2 + i))) (fun i a => a = fil (fil s k1 lo1 (lo1 + i) g1) k2 lo2 (lo2 + i) g2) N b hN (a0 := s) (by rw [show lo1 + ((0 : Nat) : Int) = lo1 by omega, show lo2 + ((0 : Nat) : Int) = lo2 by omega, fil_0, fil_0]) (fun n i a hi ha => ?_) (fun n a ha => ?_)
  · rw [key.1, key.2]
  · rw [ha]
    refine ⟨step n i hi, ?_⟩
    rw [fil_s2 s k1 k2 lo1 lo2 g1 g2 (i := i) (N := N) (by omega) (by omega) hd, show lo1 + (i : Int) + 1 = lo1 + ((i + 1 : Nat) : Int) by omega, show lo2 + (i : Int) + 1 = lo2 + ((i + 1 : Nat) : Int) by omega]
  · rw [ha]
    exact fin n
end
/-! ===== the twin holds a state ===== -/
/-- what can be undone lies in a block -/
def Ent (a : Int → Int) (b : Int) (X : Txt) (V : Crt) : Prop := a b = kMi V ∧ (∀ m : Int, 0 ≤ m → m < xM X → a (b + 1 + m) = kW V m (kMi V) ∧ a (b + 7 + m) = kR V m (kMi V)) ∧
  ∀ k : Int, 0 ≤ k → k < xK X → (a (b + 13 + k) = kH V k (kMi V) ∧ a (b + 21 + k) = kU V k (kMi V) ∧ a (b + 29 + k) = kL V k (kMi V)) ∧ a (b + 37 + k) = (if kB V k = 300 then -1 else kB V k) ∧ a (b + 45 + k) = kF V k
def UnT (s : TW) (X : Txt) (K : Crt) (U : List Crt) : Prop := s.1 61 = (U.length : Int) ∧ ∀ j : Nat, j < U.length → Ent (s.2 62) (53 * ((U.length : Int) - 1 - j)) X (U.getD j K)
def SlT (s : TW) (X : Txt) (H : Int → Int) (S : Int → Crt) : Prop := ∀ i : Int, 0 ≤ i → i < 3 → s.2 72 i = H i ∧ (H i = 1 → RepR (kMi (S i)) (fun j => s.2 73 (10800 * i + j)) (s.2 74 (17 * i)) (fun j => s.2 74 (17 * i + 1 + j)) (fun j => s.2 74 (17 * i + 9 + j)) X (S i))
def TpT (s : TW) (n : Int) (f : Int → Int) : Prop := s.1 2 = n ∧ ∀ i : Int, 0 ≤ i → i < n → s.2 1 i = f i
def TInv (s : TW) (M : Mst) : Prop := TQ s (mX M) (mK M) ∧ UnT s (mX M) (mK M) (mU M) ∧ SlT s (mX M) (mHd M) (mSl M) ∧ TlT s (mT M) ∧ TpT s (mTn M) (mTp M) ∧ s.1 17 = mPl M
section
variable {s s' : TW} {X : Txt} {K K' : Crt} {M : Mst} {β : Type} {ks fs : List Int}
theorem UnT.fr {U : List Crt} (h : UnT s X K U) (c : cg_ ks fs s s') (h1 : (62 : Int) ∉ ks) (h2 : (61 : Int) ∉ fs) (K' : Crt) : UnT s' X K' U := by
  refine ⟨(c.2 61 h2).trans h.1, fun j hj => ?_⟩
  rw [c.1 62 h1, getD_any hj K K']
  exact h.2 j hj
theorem SlT.fr {H : Int → Int} {S : Int → Crt} (h : SlT s X H S) (c : cg_ ks fs s s') (h1 : (72 : Int) ∉ ks) (h2 : (73 : Int) ∉ ks) (h3 : (74 : Int) ∉ ks) : SlT s' X H S := by
  intro i i0 i1
  rw [c.1 72 h1, c.1 73 h2, c.1 74 h3]
  exact h i i0 i1
theorem TlT.fr {T : Tld} (h : TlT s T) (c : cg_ ks fs s s') (h1 : (67 : Int) ∉ fs) (h2 : (68 : Int) ∉ ks) (h3 : (69 : Int) ∉ ks) (h4 : (70 : Int) ∉ ks) (h5 : (71 : Int) ∉ ks) : TlT s' T := by
  refine ⟨(c.2 67 h1).trans h.1, fun i i0 i1 => ?_⟩
  rw [c.1 68 h2, c.1 69 h3, c.1 70 h4, c.1 71 h5]
  exact h.2 i i0 i1
theorem TpT.fr {n : Int} {f : Int → Int} (h : TpT s n f) (c : cg_ ks fs s s') (h1 : (2 : Int) ∉ fs) (h2 : (1 : Int) ∉ ks) : TpT s' n f := by
  refine ⟨(c.2 2 h1).trans h.1, fun i i0 i1 => ?_⟩
  rw [c.1 1 h2]
  exact h.2 i i0 i1
theorem TQ.fr (h : TQ s X K) (c : cg_ ks fs s s') (h0 : ∀ k ∈ ks, k < 24 ∨ 46 < k) (h1 : (18 : Int) ∉ fs) (h2 : (53 : Int) ∉ fs) (h3 : (52 : Int) ∉ ks) (h4 : (54 : Int) ∉ ks) (h5 : (55 : Int) ∉ ks) : TQ s' X K := by
  refine ⟨h.1, h.2.1.same (c.text h0 h1), ?_, h.2.2.2⟩
  unfold RepN
  rw [c.1 52 h3, c.1 54 h4, c.1 55 h5, c.2 53 h2]
  exact h.2.2.1
/-- questions leave it -/
theorem TInv.q (h : TInv s M) (c : chg qk qf s s') : TInv s' M := ⟨h.1.fr c (by decide) (by decide) (by decide) (by decide) (by decide) (by decide), h.2.1.fr c (by decide) (by decide) _, h.2.2.1.fr c (by decide) (by decide) (by decide), h.2.2.2.1.fr c (by decide) (by decide) (by decide) (by decide) (by decide), h.2.2.2.2.1.fr c (by decide) (by decide), (c.2 17 (by decide)).trans h.2.2.2.2.2⟩
/-- rows are kept, those below lie there -/
theorem t_keepsRows2 (hX : WfX X) (hn : RepN s X K) (hr : RepW s X K') (hK : WfK X K) (hK' : WfK X K') (hb : blw X K K') : ∃ s' : TW, f_X8_keepsRows s (kMi K) = some ((), s') ∧ RepN s' X K' ∧ chg [52, 54, 55] [53] s s' := by
  have a1 := hX.2.2.1
  have a4 := hX.2.2.2.1
  have a2 := hK.1
  have a3 := hK'.1
  have b0 := hb.1
  have hmi : s.1 57 = kMi K' := hr.1
  have c1 : chg [52, 54, 55] [53] s (fil s 52 (36 * kMi K) (36 * kMi K + ((36 * kMi K' + 36 - 36 * kMi K).toNat : Int)) (s.2 56)) := (chg.rf _ _ s).fil (by decide) _ _ _
  have c2 := c1.tp (k := 53) (by decide) (kMi K')
  have c3 := (c2.fil (k := 54) (by decide) 0 (0 + ((8 : Nat) : Int)) (s.2 58)).fil (k := 55) (by decide) 0 (0 + ((8 : Nat) : Int)) (s.2 59)
  refine ⟨_, ?_, ?_, c3⟩
  · unfold f_X8_keepsRows
    refine (loopC (fun n a x => f_X8_keepsRows_L5 n a x (fun s4 => bd (tp s4 53 (s4.1 57)) fun s5 => f_X8_keepsRows_L47 FU s5 0 (fun s11 => some ((), s11)))) (fun s4 => bd (tp s4 53 (s4.1 57)) fun s5 => f_X8_keepsRows_L47 FU s5 0 (fun s11 => some ((), s11))) s 52 (36 * kMi K) (36 * kMi K) (s.2 56) (36 * kMi K' + 36 - 36 * kMi K).toNat (by rw [FU_eq]; omega) (fun n i hi => ?_) (fun n => ?_)).trans ?_
    · rw [f_X8_keepsRows_L5, fil_f, hmi, nrm_i (z := 36 * kMi K' + 36) (by omega) (by omega), nrm_i (z := 36 * kMi K + (i : Int)) (by omega) (by omega), if_neg (by omega), tb56 (by omega) (by omega), ts52 (by omega) (by omega), obS, fil_ne _ _ _ _ (by decide)]
    · rw [f_X8_keepsRows_L5, fil_f, hmi, nrm_i (z := 36 * kMi K' + 36) (by omega) (by omega), nrm_i (z := 36 * kMi K + _) (by omega) (by omega), if_pos (by omega)]
    · rw [bdS, fil_f, hmi]
      refine (loopC2 (fun n a x => f_X8_keepsRows_L47 n a x (fun s11 => some ((), s11))) (fun s11 => some ((), s11)) _ 54 55 0 0 0 (s.2 58) (s.2 59) 8 (by decide) (Or.inl (by decide)) (fun n i hi => ?_) (fun n => ?_)).trans rfl
      · rw [f_X8_keepsRows_L47, nrm_i (z := 8) (by decide) (by decide), nrm_i (z := 0 + (i : Int)) (by omega) (by omega), if_neg (by omega), tb58 (by omega) (by omega), ts54 (by omega) (by omega), obS, tb59 (by omega) (by omega), ts55 (by omega) (by omega), obS, tst_ne _ _ _ (by decide), fil_ne _ _ _ _ (by decide), fil_ne _ _ _ _ (by decide), fil_ne _ _ _ _ (by decide), fil_ne _ _ _ _ (by decide)]
        rfl
      · rw [f_X8_keepsRows_L47, if_pos (by decide)]
  · have e52 : ∀ j : Int, j < 36 * kMi K' + 36 → (fil (fil (tp (fil s 52 (36 * kMi K) (36 * kMi K + ((36 * kMi K' + 36 - 36 * kMi K).toNat : Int)) (s.2 56)) 53 (kMi K')) 54 0 (0 + ((8 : Nat) : Int)) (s.2 58)) 55 0 (0 + ((8 : Nat) : Int)) (s.2 59)).2 52 j = if j < 36 * kMi K then s.2 52 j else s.2 56 j := by
      intro j hj
      rw [fil_ne _ _ _ _ (by decide), fil_ne _ _ _ _ (by decide)]
      show (fil s 52 _ _ _).2 52 j = _
      by_cases c : j < 36 * kMi K
      · rw [if_pos c, fil_out s (by omega)]
      · rw [if_neg c, fil_in s (by omega) (by omega)]
    refine ⟨rfl, fun m t m0 m1 t0 t1 => ?_, fun k t m0 m1 t0 t1 => ?_, fun k m0 m1 => ?_⟩
    · rw [e52 _ (by omega), e52 _ (by omega)]
      by_cases c : t < kMi K
      · rw [if_pos (by omega), if_pos (by omega)]
        have h1 := hn.2.1 m t m0 m1 t0 (by omega)
        have h2 := hb.2.1 m t m0 m1 t0 c
        exact ⟨h1.1.trans h2.1, h1.2.trans h2.2⟩
      · rw [if_neg (by omega), if_neg (by omega)]
        exact hr.2.1 m t m0 m1 t0 t1
    · rw [e52 _ (by omega), e52 _ (by omega), e52 _ (by omega)]
      by_cases c : t < kMi K
      · rw [if_pos (by omega), if_pos (by omega), if_pos (by omega)]
        have h1 := hn.2.2.1 k t m0 m1 t0 (by omega)
        have h2 := hb.2.2 k t m0 m1 t0 c
        exact ⟨h1.1.trans h2.1, h1.2.1.trans h2.2.1, fun _ => (h1.2.2 (by omega)).trans h2.2.2⟩
      · rw [if_neg (by omega), if_neg (by omega), if_neg (by omega)]
        exact hr.2.2.1 k t m0 m1 t0 t1
    · have h := hr.2.2.2 k m0 m1
      rw [fil_ne _ _ _ _ (by decide), fil_in _ m0 (by omega), fil_in _ m0 (by omega)]
      exact h
end
