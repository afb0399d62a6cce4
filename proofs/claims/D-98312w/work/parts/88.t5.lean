set_option maxRecDepth 100000
set_option maxHeartbeats 1000000
/-! ===== PURE: the twin restores, is told, counts, is fed ===== -/
section
variable {s s' s1 : TW} {X : Txt} {K K' : Crt} {M : Mst} {β : Type} {ks fs : List Int}
theorem tp_2 (a : TW) (k v : Int) : (tp a k v).2 = a.2 := rfl
theorem t_restore (T : TInv s M) (hM : WfM M) {x : Int} (wx : wd x) : ∃ s' : TW, f_X8_restore s x = some (if g_restore M x then 1 else 0, s') ∧ TInv s' (a_restore M x) ∧ chg ok_ of_ s s' := by
  obtain ⟨Q, U, S, L, P, W⟩ := T
  have T : TInv s M := ⟨Q, U, S, L, P, W⟩
  have hX := Q.1
  have a1 := hX.2.2.1
  have a4 := hX.2.2.2.1
  unfold f_X8_restore a_restore
  by_cases G0 : 0 ≤ x ∧ x ≤ 2
  · have G1 := G0.1
    have G2 := G0.2
    have hS := S x (by omega) (by omega)
    have hH := (hM.2.2.2.1 x (by omega) (by omega))
    by_cases G3 : mHd M x = 1
    · have G : g_restore M x := ⟨G0, G3⟩
      rw [if_pos G, if_pos G]
      have hok := hH.2 G3
      have a2 := hok.1.1
      obtain ⟨r1, r2, r3, r4⟩ := hS.2 G3
      have c1 : chg [52, 54, 55] [53, 61] s (tp s 53 (kMi (mSl M x))) := (chg.rf _ _ s).tp (by decide) _
      have c2 := c1.fil (k := 52) (by decide) 0 (0 + ((36 * kMi (mSl M x) + 36).toNat : Int)) (fun j => s.2 73 (10800 * x + j))
      have c3 := (c2.fil (k := 54) (by decide) 0 (0 + ((8 : Nat) : Int)) (fun j => s.2 74 (17 * x + 1 + j))).fil (k := 55) (by decide) 0 (0 + ((8 : Nat) : Int)) (fun j => s.2 74 (17 * x + 9 + j))
      have c4 := c3.tp (k := 61) (by decide) 0
      refine ⟨_, ?_, ⟨⟨hX, Q.2.1.same (c4.text (by decide) (by decide)), ?_, hok.1⟩, ⟨rfl, fun j hj => absurd hj (Nat.not_lt_zero j)⟩, S.fr c4 (by decide) (by decide) (by decide), L.fr c4 (by decide) (by decide) (by decide) (by decide) (by decide), P.fr c4 (by decide) (by decide), (c4.2 17 (by decide)).trans W⟩, c4.up (by decide) (by decide)⟩
      · rw [ti_t G0.1 G0.2 wx.1 wx.2 (by decide) (by decide), if_neg (by decide), tb72 (by omega) (by omega), hS.1, G3, if_pos (by decide), tb74 (by omega) (by omega), r1, bdS]
        have k1 : ∀ f : TW → Int → Option (Int × TW), f_X8_restore_L35 FU (tp s 53 (kMi (mSl M x))) x 0 f = f (fil (tp s 53 (kMi (mSl M x))) 52 0 (0 + ((36 * kMi (mSl M x) + 36).toNat : Int)) (fun j => s.2 73 (10800 * x + j))) x := fun f => by
          refine loopC (fun n a y => f_X8_restore_L35 n a x y f) (fun a => f a x) (tp s 53 (kMi (mSl M x))) 52 0 0 (fun j => s.2 73 (10800 * x + j)) (36 * kMi (mSl M x) + 36).toNat (by rw [FU_eq]; omega) (fun n i hi => ?_) (fun n => ?_)
          · rw [f_X8_restore_L35, fil_f, tp_eq, nrm_i (z := 36 * kMi (mSl M x) + 36) (by omega) (by omega), nrm_i (z := 0 + (i : Int)) (by omega) (by omega), if_neg (by omega), tb73 (by omega) (by omega), ts52 (by omega) (by omega), obS]
            rfl
          · rw [f_X8_restore_L35, fil_f, tp_eq, nrm_i (z := 36 * kMi (mSl M x) + 36) (by omega) (by omega), nrm_i (z := 0 + _) (by omega) (by omega), if_pos (by omega)]
        rw [k1]
        refine (loopC2 (fun n a y => f_X8_restore_L75 n a x y (fun s15 => bd (tp s15 61 0) fun s16 => some (1, s16))) (fun s15 => bd (tp s15 61 0) fun s16 => some (1, s16)) _ 54 55 0 0 0 (fun j => s.2 74 (17 * x + 1 + j)) (fun j => s.2 74 (17 * x + 9 + j)) 8 (by decide) (Or.inl (by decide)) (fun n i hi => ?_) (fun n => ?_)).trans ?_
        · rw [f_X8_restore_L75, nrm_i (z := 8) (by decide) (by decide), nrm_i (z := 0 + (i : Int)) (by omega) (by omega), if_neg (by omega), tb74 (by omega) (by omega), ts54 (by omega) (by omega), obS, tb74 (by omega) (by omega), ts55 (by omega) (by omega), obS]
          rfl
        · rw [f_X8_restore_L75, if_pos (by decide)]
        · rw [bdS]
      · have d52 : ∀ j : Int, 0 ≤ j → j < 36 * kMi (mSl M x) + 36 → (tp (fil (fil (fil (tp s 53 (kMi (mSl M x))) 52 0 (0 + ((36 * kMi (mSl M x) + 36).toNat : Int)) (fun j => s.2 73 (10800 * x + j))) 54 0 (0 + ((8 : Nat) : Int)) (fun j => s.2 74 (17 * x + 1 + j))) 55 0 (0 + ((8 : Nat) : Int)) (fun j => s.2 74 (17 * x + 9 + j))) 61 0).2 52 j = s.2 73 (10800 * x + j) := by
          intro j j0 hj
          rw [tp_2, fil_ne _ _ _ _ (by decide), fil_ne _ _ _ _ (by decide), fil_in _ (by omega) (by omega)]
        refine ⟨rfl, fun m t m0 m1 t0 t1 => ?_, fun k t m0 m1 t0 t1 => ?_, fun k m0 m1 => ?_⟩
        · have t1 : t ≤ kMi (mSl M x) := t1
          have m1 : m < xM (mX M) := m1
          rw [d52 _ (by omega) (by omega), d52 _ (by omega) (by omega)]
          exact r2 m t m0 m1 t0 t1
        · have t1 : t ≤ kMi (mSl M x) := t1
          have m1 : k < xK (mX M) := m1
          rw [d52 _ (by omega) (by omega), d52 _ (by omega) (by omega), d52 _ (by omega) (by omega)]
          exact r3 k t m0 m1 t0 t1
        · have m1 : k < xK (mX M) := m1
          rw [tp_2, fil_ne _ _ _ _ (by decide), fil_in _ m0 (by omega), fil_in _ m0 (by omega)]
          exact r4 k m0 m1
    · have G : ¬ g_restore M x := fun h => G3 h.2
      rw [if_neg G, if_neg G]
      refine ⟨s, ?_, T, chg.rf _ _ _⟩
      have h0 : mHd M x = 0 := hH.1.resolve_right G3
      rw [ti_t G0.1 G0.2 wx.1 wx.2 (by decide) (by decide), if_neg (by decide), tb72 (by omega) (by omega), hS.1, h0, if_neg (by decide)]
  · have G : ¬ g_restore M x := fun h => G0 h.1
    rw [if_neg G, if_neg G]
    refine ⟨s, ?_, T, chg.rf _ _ _⟩
    rw [ti_f (by omega) wx.1 wx.2 (by decide) (by decide) (by decide) (by decide), if_pos (by decide)]
theorem t_forget (T : TInv s M) : ∃ s' : TW, f_X8_forget s = some ((mT M).1, s') ∧ TInv s' (a_forget M) ∧ chg ok_ of_ s s' := by
  obtain ⟨Q, U, S, L, P, W⟩ := T
  have c : chg [] [67] s (tp s 67 0) := (chg.rf _ _ s).tp (by decide) _
  refine ⟨_, ?_, ⟨Q.fr c (by decide) (by decide) (by decide) (by decide) (by decide) (by decide), U.fr c (by decide) (by decide) _, S.fr c (by decide) (by decide) (by decide), ⟨tp_eq _ _ _, fun i i0 i1 => ?_⟩, P.fr c (by decide) (by decide), (c.2 17 (by decide)).trans W⟩, c.up (by decide) (by decide)⟩
  · unfold f_X8_forget
    rw [bdS, L.1]
  · have i1 : i < 0 := i1
    omega
theorem t_place (T : TInv s M) : f_X8_place s = some (mPl M, s) := by
  unfold f_X8_place
  rw [T.2.2.2.2.2]
theorem t_back (T : TInv s M) (hM : WfM M) {x : Int} (wx : wd x) : ∃ s' : TW, f_X8_back s x = some (v_back M x, s') ∧ TInv s' (a_back M x) ∧ chg ok_ of_ s s' := by
  obtain ⟨Q, U, S, L, P, W⟩ := T
  have T : TInv s M := ⟨Q, U, S, L, P, W⟩
  have hn := hM.2.2.2.2.2.1.1
  have wx1 := wx.1
  have wx2 := wx.2
  unfold f_X8_back v_back a_back
  by_cases c1 : 0 ≤ x
  · by_cases c2 : x ≤ mTn M
    · have G : g_back M x := ⟨c1, c2⟩
      rw [if_pos G, if_pos G]
      have c : chg [] [2] s (tp s 2 (mTn M - x)) := (chg.rf _ _ s).tp (by decide) _
      refine ⟨_, ?_, ⟨Q.fr c (by decide) (by decide) (by decide) (by decide) (by decide) (by decide), U.fr c (by decide) (by decide) _, S.fr c (by decide) (by decide) (by decide), L.fr c (by decide) (by decide) (by decide) (by decide) (by decide), ⟨tp_eq _ _ _, fun i i0 i1 => ?_⟩, (c.2 17 (by decide)).trans W⟩, c.up (by decide) (by decide)⟩
      · rw [nrm_i wx1 wx2, if_neg (by omega), P.1, nrm_i (z := mTn M) (by omega) (by omega), if_pos c2, nrm_i (z := mTn M - x) (by omega) (by omega), bdS, tp_eq]
      · have i1 : i < mTn M - x := i1
        exact P.2 i i0 (by omega)
    · have G : ¬ g_back M x := fun h => c2 h.2
      rw [if_neg G, if_neg G]
      refine ⟨s, ?_, T, chg.rf _ _ _⟩
      rw [nrm_i wx1 wx2, if_neg (by omega), P.1, nrm_i (z := mTn M) (by omega) (by omega), if_neg c2]
  · have G : ¬ g_back M x := fun h => c1 h.1
    rw [if_neg G, if_neg G]
    refine ⟨s, ?_, T, chg.rf _ _ _⟩
    rw [nrm_i wx1 wx2, if_pos (by omega)]
theorem t_tell (T : TInv s M) (hM : WfM M) {x y z b : Int} (wx : wd x) (wy : wd y) (wz : wd z) (hb : b = 0 ∨ b = 1) : ∃ s' : TW, f_X8_tell s x y z b = some (v_tell M x y z, s') ∧ TInv s' (a_tell M x y z b) ∧ chg ok_ of_ s s' := by
  obtain ⟨Q, U, S, L, P, W⟩ := T
  have T : TInv s M := ⟨Q, U, S, L, P, W⟩
  have hX := Q.1
  have hs := Q.2.1
  have hT := hM.2.2.2.2.1.1
  have wx1 := wx.1
  have wx2 := wx.2
  have wy1 := wy.1
  have wy2 := wy.2
  have wz1 := wz.1
  have wz2 := wz.2
  have n0 := hX.2.2.1
  have n1 := hX.2.2.2.1
  have t0 := L.1
  unfold f_X8_tell v_tell a_tell
  rw [t0, nrm_i (z := (mT M).1) (by omega) (by omega), nrm_i (z := 20) (by decide) (by decide)]
  by_cases G : g_tell M x y z
  · rw [if_pos G, if_pos G]
    obtain ⟨c1, c2, c3, c4⟩ := G
    have eb : b1I b = b := by rcases hb with h | h <;> rw [h] <;> decide
    have d1 : chg [68, 69, 70, 71] [67] s (tst s 68 (mT M).1 x) := (chg.rf _ _ s).ts (by decide) _ _
    have d2 := d1.ts (k := 69) (by decide) (mT M).1 y
    have d3 := d2.ts (k := 70) (by decide) (mT M).1 z
    have d4 := d3.ts (k := 71) (by decide) (mT M).1 b
    have d5 := d4.tp (k := 67) (by decide) ((mT M).1 + 1)
    refine ⟨_, ?_, ⟨Q.fr d5 (by decide) (by decide) (by decide) (by decide) (by decide) (by decide), U.fr d5 (by decide) (by decide) _, S.fr d5 (by decide) (by decide) (by decide), ⟨tp_eq _ _ _, fun i i0 i1 => ?_⟩, P.fr d5 (by decide) (by decide), (d5.2 17 (by decide)).trans W⟩, d5.up (by decide) (by decide)⟩
    · rw [if_neg c4, tmir_t hX hs c1.1 c1.2, if_neg (by decide), ti_t c2.1 c2.2 wy1 wy2 (by decide) (by decide), if_neg (by decide), tman_t hX hs c3.1 c3.2, if_pos (by decide), t0, nrm_i (z := x) wx1 wx2, ts68 (by omega) (by omega), obS, tst_f, t0, nrm_i (z := y) wy1 wy2, ts69 (by omega) (by omega), obS, tst_f, tst_f, t0, nrm_i (z := z) wz1 wz2, ts70 (by omega) (by omega), obS, tst_f, tst_f, tst_f, t0, eb, ts71 (by omega) (by omega), obS, tst_f, tst_f, tst_f, tst_f, t0, nrm_i (z := (mT M).1 + 1) (by omega) (by omega), bdS, tp_eq, Int.add_sub_cancel, nrm_i (z := (mT M).1) (by omega) (by omega)]
    · have i1 : i < (mT M).1 + 1 := i1
      show fu (s.2 68) (mT M).1 x i = fu (mT M).2.1 (mT M).1 x i ∧ fu (s.2 69) (mT M).1 y i = fu (mT M).2.2.1 (mT M).1 y i ∧ fu (s.2 70) (mT M).1 z i = fu (mT M).2.2.2.1 (mT M).1 z i ∧ fu (s.2 71) (mT M).1 b i = fu (mT M).2.2.2.2 (mT M).1 b i
      by_cases ei : i = (mT M).1
      · rw [ei, fuE, fuE, fuE, fuE, fuE, fuE, fuE, fuE]
        exact ⟨rfl, rfl, rfl, rfl⟩
      · rw [fuN _ _ ei, fuN _ _ ei, fuN _ _ ei, fuN _ _ ei, fuN _ _ ei, fuN _ _ ei, fuN _ _ ei, fuN _ _ ei]
        exact L.2 i i0 (by omega)
  · rw [if_neg G, if_neg G]
    refine ⟨s, ?_, T, chg.rf _ _ _⟩
    by_cases c4 : (mT M).1 = 20
    · rw [if_pos c4]
    · rw [if_neg c4]
      by_cases c1 : 0 ≤ x ∧ x < xK (mX M)
      · by_cases c2 : 0 ≤ y ∧ y ≤ 99
        · by_cases c3 : 0 ≤ z ∧ z < xM (mX M)
          · exact absurd ⟨c1, c2, c3, c4⟩ G
          · rw [tmir_t hX hs c1.1 c1.2, if_neg (by decide), ti_t c2.1 c2.2 wy1 wy2 (by decide) (by decide), if_neg (by decide), tman_f hX hs (by omega) wz1 wz2, if_neg (by decide)]
        · rw [tmir_t hX hs c1.1 c1.2, if_neg (by decide), ti_f (by omega) wy1 wy2 (by decide) (by decide) (by decide) (by decide), if_pos (by decide)]
      · rw [tmir_f hX hs (by omega) wx1 wx2, if_pos (by decide)]
theorem t_put {p : Int × (Int → Int)} (P : TpT s p.1 p.2) (h0 : 0 ≤ p.1) (h1 : p.1 + 4 ≤ 2000) (v : Int) : ∃ s' : TW, f_X8_put s v = some ((), s') ∧ TpT s' (tpt p v).1 (tpt p v).2 ∧ chg [1] [2] s s' := by
  have step : ∀ (n : Nat) (a : TW) (q : Int × (Int → Int)) (k : Int) (c : TW → Option (Unit × TW)), TpT a q.1 q.2 → 0 ≤ q.1 → q.1 < 2000 → 0 ≤ k → k ≤ 24 → ∃ a' : TW, f_X8_put_L3 (n + 1) a v k c = f_X8_put_L3 n a' v (k + (-8)) c ∧ TpT a' (tpb q v k).1 (tpb q v k).2 ∧ chg [1] [2] a a' := by
    intro n a q k c Q q0 q1 k0 k1
    have w := ((chg.rf [1] [2] a).ts (k := 1) (by decide) q.1 (byI v k)).tp (k := 2) (by decide) (q.1 + 1)
    refine ⟨_, ?_, ⟨tp_eq _ _ _, fun i i0 i1 => ?_⟩, w⟩
    · rw [f_X8_put_L3, nrm_i (by omega) (by omega), if_neg (by omega), Q.1, show i8I (i8I (srI v k)) = byI v k from rfl, ts1 q0 q1, obS, tst_f, Q.1, nrm_i (z := q.1 + 1) (by omega) (by omega), bdS]
      rfl
    · have i1 : i < q.1 + 1 := i1
      show fu (a.2 1) q.1 (byI v k) i = fu q.2 q.1 (byI v k) i
      by_cases ei : i = q.1
      · rw [ei, fuE, fuE]
      · rw [fuN _ _ ei, fuN _ _ ei]
        exact Q.2 i i0 (by omega)
  unfold f_X8_put
  show ∃ s' : TW, f_X8_put_L3 (19995 + 1 + 1 + 1 + 1 + 1) s v 24 _ = _ ∧ _
  obtain ⟨s1, e1, P1, c1⟩ := step (19995 + 1 + 1 + 1 + 1) s p 24 (fun s4 => some ((), s4)) P h0 (by omega) (by decide) (by decide)
  obtain ⟨s2, e2, P2, c2⟩ := step (19995 + 1 + 1 + 1) s1 _ (24 + (-8)) (fun s4 => some ((), s4)) P1 (by show 0 ≤ p.1 + 1; omega) (by show p.1 + 1 < 2000; omega) (by decide) (by decide)
  obtain ⟨s3, e3, P3, c3⟩ := step (19995 + 1 + 1) s2 _ (24 + (-8) + (-8)) (fun s4 => some ((), s4)) P2 (by show 0 ≤ p.1 + 1 + 1; omega) (by show p.1 + 1 + 1 < 2000; omega) (by decide) (by decide)
  obtain ⟨s4, e4, P4, c4⟩ := step (19995 + 1) s3 _ (24 + (-8) + (-8) + (-8)) (fun s4 => some ((), s4)) P3 (by show 0 ≤ p.1 + 1 + 1 + 1; omega) (by show p.1 + 1 + 1 + 1 < 2000; omega) (by decide) (by decide)
  refine ⟨s4, ?_, P4, ((c1.tr c2).tr c3).tr c4⟩
  rw [e1, e2, e3, e4, f_X8_put_L3, if_pos (by decide)]
theorem t_feed (T : TInv s M) (hM : WfM M) (a b c d e : Int) : ∃ s' : TW, f_X8_feed s a b c d e = some (v_feed M, s') ∧ TInv s' (a_feed M a b c d e) ∧ chg ok_ of_ s s' := by
  obtain ⟨Q, U, S, L, P, W⟩ := T
  have T : TInv s M := ⟨Q, U, S, L, P, W⟩
  have hn := hM.2.2.2.2.2.1.1
  unfold f_X8_feed v_feed a_feed
  by_cases G : g_feed M
  · rw [if_pos G, if_pos G]
    have G1 : mTn M + 20 ≤ 2000 := G
    obtain ⟨s1, e1, P1, c1⟩ := t_put (p := (mTn M, mTp M)) P hn.1 (by show mTn M + 4 ≤ 2000; omega) a
    obtain ⟨s2, e2, P2, c2⟩ := t_put P1 (by show 0 ≤ mTn M + 1 + 1 + 1 + 1; omega) (by show mTn M + 1 + 1 + 1 + 1 + 4 ≤ 2000; omega) b
    obtain ⟨s3, e3, P3, c3⟩ := t_put P2 (by show 0 ≤ mTn M + 1 + 1 + 1 + 1 + 1 + 1 + 1 + 1; omega) (by show mTn M + 1 + 1 + 1 + 1 + 1 + 1 + 1 + 1 + 4 ≤ 2000; omega) c
    obtain ⟨s4, e4, P4, c4⟩ := t_put P3 (by show 0 ≤ mTn M + 1 + 1 + 1 + 1 + 1 + 1 + 1 + 1 + 1 + 1 + 1 + 1; omega) (by show mTn M + 1 + 1 + 1 + 1 + 1 + 1 + 1 + 1 + 1 + 1 + 1 + 1 + 4 ≤ 2000; omega) d
    obtain ⟨s5, e5, P5, c5⟩ := t_put P4 (by show 0 ≤ mTn M + 1 + 1 + 1 + 1 + 1 + 1 + 1 + 1 + 1 + 1 + 1 + 1 + 1 + 1 + 1 + 1; omega) (by show mTn M + 1 + 1 + 1 + 1 + 1 + 1 + 1 + 1 + 1 + 1 + 1 + 1 + 1 + 1 + 1 + 1 + 4 ≤ 2000; omega) e
    have k5 := (((c1.tr c2).tr c3).tr c4).tr c5
    have en : s5.1 2 = mTn M + 20 := by
      rw [P5.1]
      show mTn M + 1 + 1 + 1 + 1 + 1 + 1 + 1 + 1 + 1 + 1 + 1 + 1 + 1 + 1 + 1 + 1 + 1 + 1 + 1 + 1 = _
      omega
    refine ⟨s5, ?_, ⟨Q.fr k5 (by decide) (by decide) (by decide) (by decide) (by decide) (by decide), U.fr k5 (by decide) (by decide) _, S.fr k5 (by decide) (by decide) (by decide), L.fr k5 (by decide) (by decide) (by decide) (by decide) (by decide), P5, (k5.2 17 (by decide)).trans W⟩, k5.up (by decide) (by decide)⟩
    rw [P.1, nrm_i (z := mTn M + 20) (by omega) (by omega), nrm_i (z := 2000) (by decide) (by decide), if_pos G1, e1, btS, e2, btS, e3, btS, e4, btS, e5, btS, en]
  · rw [if_neg G, if_neg G]
    refine ⟨s, ?_, T, chg.rf _ _ _⟩
    rw [P.1, nrm_i (z := mTn M + 20) (by omega) (by omega), nrm_i (z := 2000) (by decide) (by decide), if_neg G]
theorem tcnt5 (Q : TQ s X K) (f : TW → Int → Option (Int × TW)) : f_X8_count_L109 FU s 5 0 0 f = f s (bset (fun k => decide (¬ kB K k = 300)) (xK X).toNat : Nat) := by
  obtain ⟨hX, hs, hn, hW⟩ := Q
  have Q : TQ s X K := ⟨hX, hs, hn, hW⟩
  have hmi := Q.mi
  have a0 := hX.1
  have a1 := hX.2.2.1
  have a4 := hX.2.2.2.1
  have a3 := hs.1
  have a2 := hW.1
  have key := loopI (fun n (a : Nat) i => f_X8_count_L109 n s 5 (a : Int) i f) (fun a => f s (a : Int)) (fun i a => if (decide (¬ kB K i = 300)) = true then a ||| 2 ^ i else a) (fun _ a => a < 256) (xK X).toNat 0 (fl := FU) (by show _ < 20000; omega) (a0 := 0) (by decide) (fun n i a hi ha => ?_) (fun n a ha => ?_)
  · exact key.1
  · have hb := hW.2.2.2 (i : Int) (by omega) (by omega)
    have hB := (hn.2.2.2 (i : Int) (by omega) (by omega)).1
    have i31 : i < 31 := by omega
    have p0 : (2 : Nat) ^ i ≤ 2 ^ 7 := Nat.pow_le_pow_right (by decide) (by omega)
    rw [Int.zero_add]
    refine ⟨?_, ?_⟩
    · rw [f_X8_count_L109, tz_K hs, nrm_i (z := xK X) (by omega) (by omega), nrm_i (z := (i : Int)) (by omega) (by omega), if_neg (by omega), jnS, if_neg (by decide), tb54 (by omega) (by omega), hB]
      by_cases c : kB K i = 300
      · rw [if_pos c, if_pos rfl, if_neg (by simp [c])]
      · rw [if_neg c, nrm_i (z := kB K i) (by omega) (by omega), nrm_i (z := -1) (by decide) (by decide), if_neg (by omega), if_pos (by simp [c])]
        dsimp only
        rw [slI_1 i i31, orI_nat a (2 ^ i) (by omega) (by omega)]
    · split
      · exact Nat.or_lt_two_pow (n := 8) ha (by omega)
      · exact ha
  · show f_X8_count_L109 (n + 1) s 5 a _ f = _
    rw [f_X8_count_L109, tz_K hs, nrm_i (z := xK X) (by omega) (by omega), nrm_i (z := 0 + _) (by omega) (by omega), if_pos (by omega)]
theorem tcnt6 (Q : TQ s X K) (f : TW → Int → Option (Int × TW)) : f_X8_count_L109 FU s 6 0 0 f = f s (bset (fun k => decide (kU K k (kMi K) = 1)) (xK X).toNat : Nat) := by
  obtain ⟨hX, hs, hn, hW⟩ := Q
  have Q : TQ s X K := ⟨hX, hs, hn, hW⟩
  have hmi := Q.mi
  have a0 := hX.1
  have a1 := hX.2.2.1
  have a4 := hX.2.2.2.1
  have a3 := hs.1
  have a2 := hW.1
  have key := loopI (fun n (a : Nat) i => f_X8_count_L109 n s 6 (a : Int) i f) (fun a => f s (a : Int)) (fun i a => if (decide (kU K i (kMi K) = 1)) = true then a ||| 2 ^ i else a) (fun _ a => a < 256) (xK X).toNat 0 (fl := FU) (by show _ < 20000; omega) (a0 := 0) (by decide) (fun n i a hi ha => ?_) (fun n a ha => ?_)
  · exact key.1
  · have hu := (hW.2.2.1 (i : Int) (kMi K) (by omega) (by omega) a2.1 (Int.le_refl _)).2.1
    have i31 : i < 31 := by omega
    have p0 : (2 : Nat) ^ i ≤ 2 ^ 7 := Nat.pow_le_pow_right (by decide) (by omega)
    rw [Int.zero_add]
    refine ⟨?_, ?_⟩
    · rw [f_X8_count_L109, tz_K hs, nrm_i (z := xK X) (by omega) (by omega), nrm_i (z := (i : Int)) (by omega) (by omega), if_neg (by omega), jnS, if_pos (by decide), now_Ut Q (by omega) (by omega)]
      by_cases c : kU K i (kMi K) = 1
      · rw [c, if_neg (by decide), if_pos (by decide)]
        dsimp only
        rw [slI_1 i i31, orI_nat a (2 ^ i) (by omega) (by omega)]
      · rw [hu.resolve_right c, if_pos (by decide), if_neg (by decide)]
    · split
      · exact Nat.or_lt_two_pow (n := 8) ha (by omega)
      · exact ha
  · show f_X8_count_L109 (n + 1) s 6 a _ f = _
    rw [f_X8_count_L109, tz_K hs, nrm_i (z := xK X) (by omega) (by omega), nrm_i (z := 0 + _) (by omega) (by omega), if_pos (by omega)]
theorem t_count (T : TInv s M) (hM : WfM M) {x : Int} (wx : wd x) : f_X8_count s x = some (v_count M x, s) := by
  obtain ⟨Q, U, S, L, P, W⟩ := T
  have hX := Q.1
  have hs := Q.2.1
  have b3 := hs.1
  have hmi := Q.mi
  have wx1 := wx.1
  have wx2 := wx.2
  have ho : ∀ P : Nat → Bool, nrm (bset P (xK (mX M)).toNat : Nat) = (bset P (xK (mX M)).toNat : Nat) := fun P => by
    have h1 := bset_lt P (xK (mX M)).toNat
    have h2 : 2 ^ (xK (mX M)).toNat ≤ 2 ^ 8 := Nat.pow_le_pow_right (by decide) (by have := hX.2.2.2.1; omega)
    exact nrm_i (by omega) (by omega)
  unfold f_X8_count v_count
  rw [nrm_i wx1 wx2]
  by_cases c0 : x = 0
  · rw [if_pos c0, if_pos c0, tz_R hs]
  rw [if_neg c0, if_neg c0]
  by_cases c1 : x = 1
  · rw [if_pos c1, if_pos c1, tb25 (by omega) (by omega), hs.2.1.2.1]
  rw [if_neg c1, if_neg c1]
  by_cases c2 : x = 2
  · rw [if_pos c2, if_pos c2, tz_M hs]
  rw [if_neg c2, if_neg c2]
  by_cases c3 : x = 3
  · rw [if_pos c3, if_pos c3, tz_K hs]
  rw [if_neg c3, if_neg c3]
  by_cases c4 : x = 4
  · rw [if_pos c4, if_pos c4, hmi]
  rw [if_neg c4, if_neg c4]
  by_cases c5 : x = 5
  · rw [if_pos c5, if_pos c5, c5, tcnt5 Q, ho]
  rw [if_neg c5, if_neg c5]
  by_cases c6 : x = 6
  · rw [if_pos c6, if_pos c6, c6, tcnt6 Q, ho]
  rw [if_neg c6, if_neg c6]
  by_cases c7 : x = 7
  · rw [if_pos c7, if_pos c7, P.1]
  rw [if_neg c7, if_neg c7]
  by_cases c8 : x = 8
  · rw [if_pos c8, if_pos c8, U.1]
  rw [if_neg c8, if_neg c8]
  by_cases c9 : x = 9
  · rw [if_pos c9, if_pos c9, L.1]
  rw [if_neg c9, if_neg c9]
  by_cases c10 : x = 10
  · rw [if_pos c10, if_pos c10]
    have s0 := (S 0 (by decide) (by decide)).1
    have s1 := (S 1 (by decide) (by decide)).1
    have s2 := (S 2 (by decide) (by decide)).1
    have d0 := (hM.2.2.2.1 0 (by decide) (by decide)).1
    have d1 := (hM.2.2.2.1 1 (by decide) (by decide)).1
    have d2 := (hM.2.2.2.1 2 (by decide) (by decide)).1
    rw [tb72 (by decide) (by decide), s0]
    rcases d0 with d0 | d0 <;> rcases d1 with d1 | d1 <;> rcases d2 with d2 | d2 <;> rw [d0, d1, d2] <;> simp only [jnS, ↓reduceIte, tb72 (s := s) (i := 1) (by decide) (by decide), tb72 (s := s) (i := 2) (by decide) (by decide), s1, s2, d1, d2, show nrm 0 = 0 by decide, show nrm 1 = 1 by decide, show ¬ (1 : Int) = 0 by decide] <;> rfl
  rw [if_neg c10, if_neg c10]
end
