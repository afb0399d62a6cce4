set_option maxRecDepth 100000
set_option maxHeartbeats 1000000
/-! ===== PURE: the twin takes back, holds, is told ===== -/
section
variable {s s' s1 : TW} {X : Txt} {K K' : Crt} {M : Mst} {β : Type} {ks fs : List Int}
theorem t_undo (T : TInv s M) (hM : WfM M) : ∃ s' : TW, f_X8_undo s = some (v_undo M, s') ∧ TInv s' (a_undo M) ∧ chg ok_ of_ s s' := by
  obtain ⟨Q, U, S, L, P, W⟩ := T
  have T : TInv s M := ⟨Q, U, S, L, P, W⟩
  have hX := Q.1
  have hn := Q.2.2.1
  have a1 := hX.2.2.1
  have a4 := hX.2.2.2.1
  have a2 := Q.2.2.2.1
  have h61 := U.1
  unfold f_X8_undo v_undo a_undo
  rcases e : mU M with _ | ⟨U0, l⟩
  · rw [e] at h61
    refine ⟨s, ?_, T, chg.rf _ _ _⟩
    rw [h61, if_neg (by decide)]
  · have hl := hM.2.2.1.1
    have hok := hM.2.2.1.2.1 U0 (by rw [e]; exact List.mem_cons_self)
    have hch := hM.2.2.1.2.2
    have U2 := U.2
    rw [e] at hl h61 U2 hch
    have hbl := hch.1
    have b0 := hbl.1
    have b2 := hok.1.1
    have el : ((U0 :: l).length : Int) = (l.length : Int) + 1 := by rw [List.length_cons]; omega
    have hl2 : l.length + 1 ≤ 20 := hl
    rw [el] at h61
    have hE : Ent (s.2 62) (53 * (l.length : Int)) (mX M) U0 := by
      have := U2 0 (by rw [List.length_cons]; omega)
      rw [show ((U0 :: l).length : Int) - 1 - ((0 : Nat) : Int) = l.length by rw [el]; omega] at this
      exact this
    have hE0 : s.2 62 (53 * (l.length : Int)) = kMi U0 := hE.1
    have c1 : chg ok_ of_ s (tp s 61 (l.length : Int)) := (chg.rf _ _ s).tp (by decide) _
    have c2 := c1.tp (k := 53) (by decide) (kMi U0)
    have c3 := c2.fil (k := 52) (by decide) (36 * kMi U0) (36 * kMi U0 + ((36 : Nat) : Int)) (fun j => s.2 62 (53 * (l.length : Int) + 1 + (j - 36 * kMi U0)))
    have c4 := (c3.fil (k := 54) (by decide) 0 (0 + ((8 : Nat) : Int)) (fun j => s.2 62 (53 * (l.length : Int) + 37 + j))).fil (k := 55) (by decide) 0 (0 + ((8 : Nat) : Int)) (fun j => s.2 62 (53 * (l.length : Int) + 45 + j))
    have cE : chg [52, 54, 55] [53, 61] s (fil (fil (fil (tp (tp s 61 (l.length : Int)) 53 (kMi U0)) 52 (36 * kMi U0) (36 * kMi U0 + ((36 : Nat) : Int)) (fun j => s.2 62 (53 * (l.length : Int) + 1 + (j - 36 * kMi U0)))) 54 0 (0 + ((8 : Nat) : Int)) (fun j => s.2 62 (53 * (l.length : Int) + 37 + j))) 55 0 (0 + ((8 : Nat) : Int)) (fun j => s.2 62 (53 * (l.length : Int) + 45 + j))) :=
      (((((chg.rf _ _ s).tp (by decide) _).tp (by decide) _).fil (by decide) _ _ _).fil (by decide) _ _ _).fil (by decide) _ _ _
    refine ⟨_, ?_, ⟨⟨hX, Q.2.1.same (c4.text (by decide) (by decide)), ?_, hok.1⟩, ⟨?_, fun j hj => ?_⟩, S.fr cE (by decide) (by decide) (by decide), L.fr cE (by decide) (by decide) (by decide) (by decide) (by decide), P.fr cE (by decide) (by decide), (cE.2 17 (by decide)).trans W⟩, c4⟩
    · have e62 : (tp s 61 (l.length : Int)).2 62 = s.2 62 := rfl
      rw [h61, nrm_i (by omega) (by omega), if_pos (by omega), Int.add_sub_cancel, nrm_i (by omega) (by omega), bdS, tp_eq, tb62 (by omega) (by omega), e62, hE0, bdS]
      have k1 : ∀ f : TW → Int → Option (Int × TW), f_X8_undo_L39 FU (tp (tp s 61 (l.length : Int)) 53 (kMi U0)) (53 * (l.length : Int)) 0 f = f (fil (tp (tp s 61 (l.length : Int)) 53 (kMi U0)) 52 (36 * kMi U0) (36 * kMi U0 + ((36 : Nat) : Int)) (fun j => s.2 62 (53 * (l.length : Int) + 1 + (j - 36 * kMi U0)))) (53 * (l.length : Int)) := fun f => by
        refine loopC (fun n a x => f_X8_undo_L39 n a (53 * (l.length : Int)) x f) (fun a => f a (53 * (l.length : Int))) (tp (tp s 61 (l.length : Int)) 53 (kMi U0)) 52 (36 * kMi U0) 0 (fun j => s.2 62 (53 * (l.length : Int) + 1 + (j - 36 * kMi U0))) 36 (by decide) (fun n i hi => ?_) (fun n => ?_)
        · have e3 : (fil (tp (tp s 61 (l.length : Int)) 53 (kMi U0)) 52 (36 * kMi U0) (36 * kMi U0 + (i : Int)) (fun j => s.2 62 (53 * (l.length : Int) + 1 + (j - 36 * kMi U0)))).1 53 = kMi U0 := rfl
          have e4 : (fil (tp (tp s 61 (l.length : Int)) 53 (kMi U0)) 52 (36 * kMi U0) (36 * kMi U0 + (i : Int)) (fun j => s.2 62 (53 * (l.length : Int) + 1 + (j - 36 * kMi U0)))).2 62 = s.2 62 := rfl
          rw [f_X8_undo_L39, nrm_i (z := 36) (by decide) (by decide), nrm_i (z := 0 + (i : Int)) (by omega) (by omega), if_neg (by omega), tb62 (by omega) (by omega), e3, ts52 (by omega) (by omega), obS, e4, show 36 * kMi U0 + (i : Int) - 36 * kMi U0 = 0 + i by omega, show 36 * kMi U0 + (0 + (i : Int)) = 36 * kMi U0 + i by omega]
        · rw [f_X8_undo_L39, if_pos (by decide)]
      rw [k1]
      refine (loopC2 (fun n a x => f_X8_undo_L77 n a (53 * (l.length : Int)) x (fun s13 => some (1, s13))) (fun s13 => some (1, s13)) _ 54 55 0 0 0 (fun j => s.2 62 (53 * (l.length : Int) + 37 + j)) (fun j => s.2 62 (53 * (l.length : Int) + 45 + j)) 8 (by decide) (Or.inl (by decide)) (fun n i hi => ?_) (fun n => ?_)).trans rfl
      · rw [f_X8_undo_L77, nrm_i (z := 8) (by decide) (by decide), nrm_i (z := 0 + (i : Int)) (by omega) (by omega), if_neg (by omega), tb62 (by omega) (by omega), ts54 (by omega) (by omega), obS, tb62 (by omega) (by omega), ts55 (by omega) (by omega), obS]
        rfl
      · rw [f_X8_undo_L77, if_pos (by decide)]
    · have f52 : ∀ j : Int, j < 36 * kMi U0 + 36 → (fil (fil (fil (tp (tp s 61 (l.length : Int)) 53 (kMi U0)) 52 (36 * kMi U0) (36 * kMi U0 + ((36 : Nat) : Int)) (fun j => s.2 62 (53 * (l.length : Int) + 1 + (j - 36 * kMi U0)))) 54 0 (0 + ((8 : Nat) : Int)) (fun j => s.2 62 (53 * (l.length : Int) + 37 + j))) 55 0 (0 + ((8 : Nat) : Int)) (fun j => s.2 62 (53 * (l.length : Int) + 45 + j))).2 52 j = if j < 36 * kMi U0 then s.2 52 j else s.2 62 (53 * (l.length : Int) + 1 + (j - 36 * kMi U0)) := by
        intro j hj
        rw [fil_ne _ _ _ _ (by decide), fil_ne _ _ _ _ (by decide)]
        by_cases c : j < 36 * kMi U0
        · rw [if_pos c, fil_out _ (by omega)]; rfl
        · rw [if_neg c, fil_in _ (by omega) (by omega)]
      refine ⟨rfl, fun m t m0 m1 t0 t1 => ?_, fun k t m0 m1 t0 t1 => ?_, fun k m0 m1 => ?_⟩
      · have t1 : t ≤ kMi U0 := t1
        have m1 : m < xM (mX M) := m1
        rw [f52 _ (by omega), f52 _ (by omega)]
        by_cases c : t < kMi U0
        · rw [if_pos (by omega), if_pos (by omega)]
          have h1 := hn.2.1 m t m0 m1 t0 (by omega)
          have h2 := hbl.2.1 m t m0 m1 t0 c
          exact ⟨h1.1.trans h2.1.symm, h1.2.trans h2.2.symm⟩
        · have et : t = kMi U0 := by omega
          rw [if_neg (by omega), if_neg (by omega), et, show 53 * (l.length : Int) + 1 + (36 * kMi U0 + m - 36 * kMi U0) = 53 * (l.length : Int) + 1 + m by omega, show 53 * (l.length : Int) + 1 + (36 * kMi U0 + 6 + m - 36 * kMi U0) = 53 * (l.length : Int) + 7 + m by omega]
          exact hE.2.1 m m0 m1
      · have t1 : t ≤ kMi U0 := t1
        have m1 : k < xK (mX M) := m1
        rw [f52 _ (by omega), f52 _ (by omega), f52 _ (by omega)]
        by_cases c : t < kMi U0
        · rw [if_pos (by omega), if_pos (by omega), if_pos (by omega)]
          have h1 := hn.2.2.1 k t m0 m1 t0 (by omega)
          have h2 := hbl.2.2 k t m0 m1 t0 c
          exact ⟨h1.1.trans h2.1.symm, h1.2.1.trans h2.2.1.symm, fun _ => (h1.2.2 (by omega)).trans h2.2.2.symm⟩
        · have et : t = kMi U0 := by omega
          rw [if_neg (by omega), if_neg (by omega), if_neg (by omega), et, show 53 * (l.length : Int) + 1 + (36 * kMi U0 + 12 + k - 36 * kMi U0) = 53 * (l.length : Int) + 13 + k by omega, show 53 * (l.length : Int) + 1 + (36 * kMi U0 + 20 + k - 36 * kMi U0) = 53 * (l.length : Int) + 21 + k by omega, show 53 * (l.length : Int) + 1 + (36 * kMi U0 + 28 + k - 36 * kMi U0) = 53 * (l.length : Int) + 29 + k by omega]
          have h := (hE.2.2 k m0 m1).1
          exact ⟨h.1, h.2.1, fun _ => h.2.2⟩
      · have m1 : k < xK (mX M) := m1
        rw [fil_ne _ _ _ _ (by decide), fil_in _ m0 (by omega), fil_in _ m0 (by omega)]
        exact (hE.2.2 k m0 m1).2
    · rfl
    · have hj : j < l.length := hj
      have := U2 (j + 1) (by rw [List.length_cons]; omega)
      show Ent (s.2 62) (53 * ((l.length : Int) - 1 - j)) (mX M) (l.getD j U0)
      rw [getD_any hj (mK M)]
      rw [show ((U0 :: l).length : Int) - 1 - ((j + 1 : Nat) : Int) = l.length - 1 - j by rw [el]; omega] at this
      exact this
theorem t_hold (T : TInv s M) (hM : WfM M) {x : Int} (wx : wd x) : ∃ s' : TW, f_X8_hold s x = some (if g_hold x then 1 else 0, s') ∧ TInv s' (a_hold M x) ∧ chg ok_ of_ s s' := by
  obtain ⟨Q, U, S, L, P, W⟩ := T
  have T : TInv s M := ⟨Q, U, S, L, P, W⟩
  have hX := Q.1
  have hn := Q.2.2.1
  have hmi := Q.mi
  have a1 := hX.2.2.1
  have a4 := hX.2.2.2.1
  have a2 := Q.2.2.2.1
  unfold f_X8_hold a_hold
  by_cases G : g_hold x
  · rw [if_pos G, if_pos G]
    have G1 := G.1
    have G2 := G.2
    have c1 : chg [72, 73, 74] [] s (tst s 72 x 1) := (chg.rf _ _ s).ts (by decide) _ _
    have c2 := c1.fil (k := 73) (by decide) (10800 * x) (10800 * x + ((36 * kMi (mK M) + 36).toNat : Int)) (fun j => s.2 52 (j - 10800 * x))
    have c3 := c2.ts (k := 74) (by decide) (17 * x) (kMi (mK M))
    have c4 := (c3.fil (k := 74) (by decide) (17 * x + 1) (17 * x + 1 + ((8 : Nat) : Int)) (fun j => s.2 54 (j - 17 * x - 1))).fil (k := 74) (by decide) (17 * x + 9) (17 * x + 9 + ((8 : Nat) : Int)) (fun j => s.2 55 (j - 17 * x - 9))
    refine ⟨_, ?_, ⟨Q.fr c4 (by decide) (by decide) (by decide) (by decide) (by decide) (by decide), U.fr c4 (by decide) (by decide) _, fun i i0 i1 => ?_, L.fr c4 (by decide) (by decide) (by decide) (by decide) (by decide), P.fr c4 (by decide) (by decide), (c4.2 17 (by decide)).trans W⟩, c4.up (by decide) (by decide)⟩
    · rw [ti_t G.1 G.2 wx.1 wx.2 (by decide) (by decide), if_pos (by decide), show b1I 1 = 1 by decide, ts72 (by omega) (by omega), obS]
      have k1 : ∀ f : TW → Int → Option (Int × TW), f_X8_hold_L20 FU (tst s 72 x 1) x 0 f = f (fil (tst s 72 x 1) 73 (10800 * x) (10800 * x + ((36 * kMi (mK M) + 36).toNat : Int)) (fun j => s.2 52 (j - 10800 * x))) x := fun f => by
        refine loopC (fun n a y => f_X8_hold_L20 n a x y f) (fun a => f a x) (tst s 72 x 1) 73 (10800 * x) 0 (fun j => s.2 52 (j - 10800 * x)) (36 * kMi (mK M) + 36).toNat (by rw [FU_eq]; omega) (fun n i hi => ?_) (fun n => ?_)
        · rw [f_X8_hold_L20, fil_f, tst_f, hmi, nrm_i (z := 36 * kMi (mK M) + 36) (by omega) (by omega), nrm_i (z := 0 + (i : Int)) (by omega) (by omega), if_neg (by omega), tb52 (by omega) (by omega), ts73 (by omega) (by omega), obS, fil_ne _ _ _ _ (by decide), tst_ne _ _ _ (by decide), show 10800 * x + (i : Int) - 10800 * x = 0 + i by omega, show 10800 * x + (0 + (i : Int)) = 10800 * x + i by omega]
        · rw [f_X8_hold_L20, fil_f, tst_f, hmi, nrm_i (z := 36 * kMi (mK M) + 36) (by omega) (by omega), nrm_i (z := 0 + _) (by omega) (by omega), if_pos (by omega)]
      rw [k1, ts74 (by omega) (by omega), obS, fil_f, tst_f, hmi]
      refine (loopC2 (fun n a y => f_X8_hold_L73 n a x y (fun s14 => some (1, s14))) (fun s14 => some (1, s14)) _ 74 74 (17 * x + 1) (17 * x + 9) 0 (fun j => s.2 54 (j - 17 * x - 1)) (fun j => s.2 55 (j - 17 * x - 9)) 8 (by decide) (Or.inr (by omega)) (fun n i hi => ?_) (fun n => ?_)).trans rfl
      · rw [f_X8_hold_L73, nrm_i (z := 8) (by decide) (by decide), nrm_i (z := 0 + (i : Int)) (by omega) (by omega), if_neg (by omega), tb54 (by omega) (by omega), ts74 (by omega) (by omega), obS, tb55 (by omega) (by omega), ts74 (by omega) (by omega), obS, show 17 * x + 1 + (i : Int) - 17 * x - 1 = 0 + i by omega, show 17 * x + 9 + (i : Int) - 17 * x - 9 = 0 + i by omega, show 17 * x + 1 + (0 + (i : Int)) = 17 * x + 1 + i by omega, show 17 * x + 9 + (0 + (i : Int)) = 17 * x + 9 + i by omega]
        rfl
      · rw [f_X8_hold_L73, if_pos (by decide)]
    · have d72 : ∀ j : Int, (fil (fil (tst (fil (tst s 72 x 1) 73 (10800 * x) (10800 * x + ((36 * kMi (mK M) + 36).toNat : Int)) (fun j => s.2 52 (j - 10800 * x))) 74 (17 * x) (kMi (mK M))) 74 (17 * x + 1) (17 * x + 1 + ((8 : Nat) : Int)) (fun j => s.2 54 (j - 17 * x - 1))) 74 (17 * x + 9) (17 * x + 9 + ((8 : Nat) : Int)) (fun j => s.2 55 (j - 17 * x - 9))).2 72 j = fu (s.2 72) x 1 j := fun j => by
        rw [fil_ne _ _ _ _ (by decide), fil_ne _ _ _ _ (by decide), tst_ne _ _ _ (by decide), fil_ne _ _ _ _ (by decide), tst_eq]
      have d73 : ∀ j : Int, (fil (fil (tst (fil (tst s 72 x 1) 73 (10800 * x) (10800 * x + ((36 * kMi (mK M) + 36).toNat : Int)) (fun j => s.2 52 (j - 10800 * x))) 74 (17 * x) (kMi (mK M))) 74 (17 * x + 1) (17 * x + 1 + ((8 : Nat) : Int)) (fun j => s.2 54 (j - 17 * x - 1))) 74 (17 * x + 9) (17 * x + 9 + ((8 : Nat) : Int)) (fun j => s.2 55 (j - 17 * x - 9))).2 73 j = if 10800 * x ≤ j ∧ j < 10800 * x + ((36 * kMi (mK M) + 36).toNat : Int) then s.2 52 (j - 10800 * x) else s.2 73 j := fun j => by
        rw [fil_ne _ _ _ _ (by decide), fil_ne _ _ _ _ (by decide), tst_ne _ _ _ (by decide), fil_eq, tst_ne _ _ _ (by decide)]
      show _ = fu (mHd M) x 1 i ∧ (fu (mHd M) x 1 i = 1 → RepR (kMi (fu (mSl M) x (mK M) i)) _ _ _ _ (mX M) (fu (mSl M) x (mK M) i))
      rw [d72]
      by_cases ei : i = x
      · subst ei
        rw [fuE, fuE, fuE]
        refine ⟨rfl, fun _ => ⟨?_, fun m t m0 m1 t0 t1 => ?_, fun k t m0 m1 t0 t1 => ?_, fun k m0 m1 => ?_⟩⟩
        · rw [fil_out _ (by omega), fil_out _ (by omega), tst_eq, fuE]
        · have t1 : t ≤ kMi (mK M) := t1
          have m1 : m < xM (mX M) := m1
          dsimp only
          rw [d73, d73, if_pos (by omega), if_pos (by omega), show 10800 * i + (36 * t + m) - 10800 * i = 36 * t + m by omega, show 10800 * i + (36 * t + 6 + m) - 10800 * i = 36 * t + 6 + m by omega]
          exact hn.2.1 m t m0 m1 t0 t1
        · have t1 : t ≤ kMi (mK M) := t1
          have m1 : k < xK (mX M) := m1
          dsimp only
          rw [d73, d73, d73, if_pos (by omega), if_pos (by omega), if_pos (by omega), show 10800 * i + (36 * t + 12 + k) - 10800 * i = 36 * t + 12 + k by omega, show 10800 * i + (36 * t + 20 + k) - 10800 * i = 36 * t + 20 + k by omega, show 10800 * i + (36 * t + 28 + k) - 10800 * i = 36 * t + 28 + k by omega]
          exact hn.2.2.1 k t m0 m1 t0 t1
        · have m1 : k < xK (mX M) := m1
          dsimp only
          rw [fil_out _ (by omega), fil_in _ (by omega) (by omega), fil_in _ (by omega) (by omega), show 17 * i + 1 + k - 17 * i - 1 = k by omega, show 17 * i + 9 + k - 17 * i - 9 = k by omega]
          exact hn.2.2.2 k m0 m1
      · rw [fuN _ _ ei, fuN _ _ ei, fuN _ _ ei]
        have hS := S i i0 i1
        have a3 : ∀ h : mHd M i = 1, kMi (mSl M i) ≤ 299 := fun h => by
          exact ((hM.2.2.2.1 i i0 i1).2 h).1.1.2
        refine ⟨hS.1, fun h => ?_⟩
        obtain ⟨r1, r2, r3, r4⟩ := hS.2 h
        have a5 := a3 h
        refine ⟨?_, fun m t m0 m1 t0 t1 => ?_, fun k t m0 m1 t0 t1 => ?_, fun k m0 m1 => ?_⟩
        · rw [fil_out _ (by omega), fil_out _ (by omega), tst_eq, fuN _ _ (by omega), fil_ne _ _ _ _ (by decide), tst_ne _ _ _ (by decide)]
          exact r1
        · have m1 : m < xM (mX M) := m1
          have t1 : t ≤ kMi (mSl M i) := t1
          dsimp only
          rw [d73, d73, if_neg (by omega), if_neg (by omega)]
          exact r2 m t m0 m1 t0 t1
        · have m1 : k < xK (mX M) := m1
          have t1 : t ≤ kMi (mSl M i) := t1
          dsimp only
          rw [d73, d73, d73, if_neg (by omega), if_neg (by omega), if_neg (by omega)]
          exact r3 k t m0 m1 t0 t1
        · have m1 : k < xK (mX M) := m1
          dsimp only
          rw [fil_out _ (by omega), fil_out _ (by omega), tst_eq, fuN _ _ (by omega), fil_out _ (by omega), fil_out _ (by omega), tst_eq, fuN _ _ (by omega), fil_ne _ _ _ _ (by decide), tst_ne _ _ _ (by decide)]
          exact r4 k m0 m1
  · rw [if_neg G, if_neg G]
    refine ⟨s, ?_, T, chg.rf _ _ _⟩
    rw [ti_f (by omega) wx.1 wx.2 (by decide) (by decide) (by decide) (by decide), if_neg (by decide)]
end
