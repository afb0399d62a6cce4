set_option maxRecDepth 100000
set_option maxHeartbeats 1000000
def a_go (M : Mst) (x y : Int) : Mst := if g_go M x y then mPush M (k_go M x y) else M
def a_raise (M : Mst) (x y : Int) : Mst := if g_raise M x y then mPush M (k_raise M x y) else M
def a_carry (M : Mst) (x y : Int) : Mst := if g_carry M x y then mPush M (k_carry M x y) else M
def a_turn (M : Mst) (x y : Int) : Mst := if g_turn M x y then mPush M (k_turn M x y) else M
def a_smash (M : Mst) (x : Int) : Mst := if g_smash M x then mPush M (k_smash M x) else M
section
variable {Z : Nat → Prop} {σ σ' τ : Hp} {o r : Nat} {X : Txt} {K : Crt} {M : Mst} {β : Type} {q : Int} {a : Nat}
theorem CatQ.wrR (h : CatQ q σ a X K) (hc : Csh σ a) (hX : WfX X) {k t : Int} (v : Int) (h0 : 0 ≤ k) (h1 : k < 6) : CatQ q (wr σ (a + 9 + k.toNat) t v) a X (setR K k t v) := by
  have a1 := hX.2.2.1
  have a4 := hX.2.2.2.1
  have hne : ∀ b : Nat, b ≠ a + 9 + k.toNat → ci (wr σ (a + 9 + k.toNat) t v) b = ci σ b := fun b hb => wr_cne σ t v hb
  refine ⟨by rw [hne a (by omega)]; exact h.1, fun m u b0 b1 b2 b3 => ?_, fun j u b0 b1 b2 b3 => ?_, fun j b0 b1 => ?_⟩
  · obtain ⟨d1, d2⟩ := h.2.1 m u b0 b1 b2 b3
    rw [hne (a + 2 + m.toNat) (by omega)]
    refine ⟨d1, ?_⟩
    show _ = f2 (kR K) k t v m u
    by_cases e : m = k
    · subst e
      obtain ⟨-, -, ⟨-, f⟩, -⟩ := hc
      obtain ⟨g, hs⟩ := f m h0 h1
      rw [wr_ci σ t v hs]
      by_cases e2 : u = t
      · rw [e2, fuE, f2_eq]
      · rw [fuN _ _ e2, f2_ne _ _ (by omega)]
        exact d2
    · rw [hne _ (by omega), f2_ne _ _ (by omega)]
      exact d2
  · rw [hne _ (by omega), hne _ (by omega), hne _ (by omega)]
    exact h.2.2.1 j u b0 b1 b2 b3
  · rw [hne _ (by omega), hne _ (by omega)]
    exact h.2.2.2 j b0 b1
theorem CatQ.wrH (h : CatQ q σ a X K) (hc : Csh σ a) (hX : WfX X) {k t : Int} (v : Int) (h0 : 0 ≤ k) (h1 : k < 8) : CatQ q (wr σ (a + 16 + k.toNat) t v) a X (setH K k t v) := by
  have a1 := hX.2.2.1
  have a4 := hX.2.2.2.1
  have hne : ∀ b : Nat, b ≠ a + 16 + k.toNat → ci (wr σ (a + 16 + k.toNat) t v) b = ci σ b := fun b hb => wr_cne σ t v hb
  refine ⟨by rw [hne a (by omega)]; exact h.1, fun m u b0 b1 b2 b3 => ?_, fun j u b0 b1 b2 b3 => ?_, fun j b0 b1 => ?_⟩
  · rw [hne _ (by omega), hne _ (by omega)]
    exact h.2.1 m u b0 b1 b2 b3
  · obtain ⟨d1, d2, d3⟩ := h.2.2.1 j u b0 b1 b2 b3
    rw [hne (a + 25 + j.toNat) (by omega), hne (a + 34 + j.toNat) (by omega)]
    refine ⟨?_, d2, d3⟩
    show _ = f2 (kH K) k t v j u
    by_cases e : j = k
    · subst e
      obtain ⟨-, -, -, ⟨-, f⟩, -⟩ := hc
      obtain ⟨g, hs⟩ := f j h0 h1
      rw [wr_ci σ t v hs]
      by_cases e2 : u = t
      · rw [e2, fuE, f2_eq]
      · rw [fuN _ _ e2, f2_ne _ _ (by omega)]
        exact d1
    · rw [hne _ (by omega), f2_ne _ _ (by omega)]
      exact d1
  · rw [hne _ (by omega), hne _ (by omega)]
    exact h.2.2.2 j b0 b1
theorem CatQ.wrU (h : CatQ q σ a X K) (hc : Csh σ a) (hX : WfX X) {k t : Int} (v : Int) (h0 : 0 ≤ k) (h1 : k < 8) : CatQ q (wr σ (a + 25 + k.toNat) t v) a X (setU K k t v) := by
  have a1 := hX.2.2.1
  have a4 := hX.2.2.2.1
  have hne : ∀ b : Nat, b ≠ a + 25 + k.toNat → ci (wr σ (a + 25 + k.toNat) t v) b = ci σ b := fun b hb => wr_cne σ t v hb
  refine ⟨by rw [hne a (by omega)]; exact h.1, fun m u b0 b1 b2 b3 => ?_, fun j u b0 b1 b2 b3 => ?_, fun j b0 b1 => ?_⟩
  · rw [hne _ (by omega), hne _ (by omega)]
    exact h.2.1 m u b0 b1 b2 b3
  · obtain ⟨d1, d2, d3⟩ := h.2.2.1 j u b0 b1 b2 b3
    rw [hne (a + 16 + j.toNat) (by omega), hne (a + 34 + j.toNat) (by omega)]
    refine ⟨d1, ?_, d3⟩
    show _ = f2 (kU K) k t v j u
    by_cases e : j = k
    · subst e
      obtain ⟨-, -, -, -, ⟨-, f⟩, -⟩ := hc
      obtain ⟨g, hs⟩ := f j h0 h1
      rw [wr_ci σ t v hs]
      by_cases e2 : u = t
      · rw [e2, fuE, f2_eq]
      · rw [fuN _ _ e2, f2_ne _ _ (by omega)]
        exact d2
    · rw [hne _ (by omega), f2_ne _ _ (by omega)]
      exact d2
  · rw [hne _ (by omega), hne _ (by omega)]
    exact h.2.2.2 j b0 b1
theorem h_minutes (C : CInv Z σ o r M) (hM : WfM M) {n : Int} (wn : wd n) : ∃ σ' : Hp, f_X0_minutes σ o n = some (v_minutes M n, σ') ∧ CInv Z σ' o r (a_minutes M n) ∧ chgH (stS o) σ σ' := by
  have I := C.1
  have hW := I.2.2.2.2.2
  have a2 := hW.1
  have hO := I.1
  have J := I.ci
  have hX := I.2.2.2.2.1
  unfold f_X0_minutes v_minutes a_minutes
  by_cases G : 0 ≤ n ∧ n ≤ 299 - kMi (mK M)
  · rw [if_pos G]
    by_cases d : n = 0
    · rw [if_neg (by omega)]
      obtain ⟨σ1, e1, k1, c1⟩ := h_runs hO hO.court I.2.1 I.zc I.2.2.2.1 hX hW (n := n) G.1 (by omega)
      have er : rnN (mK M) n = 0 := by unfold rnN; omega
      rw [er] at k1
      have C1 := C.crt c1 k1 hW
      refine ⟨σ1, ?_, C1, crt_st c1⟩
      have em : ∀ {β : Type} (f : Int → Option β), (gI σ1 5 (some (o + 14)) 9).bind f = f (kMi (mK M) + n) := fun f => by rw [cb_mi C1.1.ci, d, Int.add_zero]; rfl
      simp (disch := omega) only [↓reduceIte, Bool.false_eq_true, nrm_i, ltT, ltF, leT, leF, eqT, eqF, not_true_eq_false, not_false_eq_true, and_self, and_true, true_and, false_and, and_false, or_true, true_or, or_false, false_or, ↓btS, ↓bnS, ↓bdS, ↓jnS, ↓obS, ↓o_g7 hO, ↓cb_mi J, ↓i_t, ↓o_rcv hO, ↓bnP e1, ↓o_g7 C1.1.1, ↓em]
    · rw [if_pos (by omega)]
      obtain ⟨σ0, e0, C0, s0⟩ := h_keeps C hM
      have I0 := C0.1
      obtain ⟨σ1, e1, k1, c1⟩ := h_runs I0.1 I0.1.court I0.2.1 I0.zc I0.2.2.2.1 hX hW (n := n) G.1 (by omega)
      have er : rnN (mK M) n = n.toNat := by unfold rnN; omega
      have hw1 := rn_wf hX n.toNat (mK M) hW (by omega)
      have er2 : rnN (mK (mPut M (mK M) ((mK M :: mU M).take 20))) n = n.toNat := er
      rw [er2] at k1
      have C1 := C0.crt c1 k1 hw1
      refine ⟨σ1, ?_, C1, s0.tr (crt_st c1)⟩
      have em : ∀ {β : Type} (f : Int → Option β), (gI σ1 5 (some (o + 14)) 9).bind f = f (kMi (mK M) + n) := fun f => by
        rw [cb_mi C1.1.ci]
        show f (kMi (rn (mX M) n.toNat (mK M))) = _
        rw [(rn_mi (mX M) n.toNat (mK M)).1, show ((n.toNat : Nat) : Int) = n by omega]
      simp (disch := omega) only [↓reduceIte, Bool.false_eq_true, nrm_i, ltT, ltF, leT, leF, eqT, eqF, not_true_eq_false, not_false_eq_true, and_self, and_true, true_and, false_and, and_false, or_true, true_or, or_false, false_or, ↓btS, ↓bnS, ↓bdS, ↓jnS, ↓obS, ↓o_g7 hO, ↓cb_mi J, ↓i_t, ↓o_rcv hO, ↓bnP e0, ↓o_g7 I0.1, ↓o_rcv I0.1, ↓bnP e1, ↓o_g7 C1.1.1, ↓em]
  · rw [if_neg G, if_neg (by omega)]
    refine ⟨σ, ?_, C, chgH.rf _ _⟩
    simp (disch := omega) only [↓reduceIte, Bool.false_eq_true, nrm_i, ltT, ltF, leT, leF, eqT, eqF, not_true_eq_false, not_false_eq_true, and_self, and_true, true_and, false_and, and_false, or_true, true_or, or_false, false_or, ↓btS, ↓bnS, ↓bdS, ↓jnS, ↓obS, ↓o_g7 hO, ↓cb_mi J, ↓i_f]
/-- a row of the court is written, mirrors are looked at -/
theorem h_wl (C : CInv Z σ o r M) {K' : Crt} {b : Nat} (hb : crtS (o + 14) b) {v : Int} (k : CatQ (kMi (mK M) - 1) (wr σ b (kMi (mK M)) v) (o + 14) (mX M) K') (he : kMi K' = kMi (mK M)) (hw : WfQ (kMi (mK M) - 1) (mX M) K') : ∃ σ' : Hp, f_X5_looks (wr σ b (kMi (mK M)) v) (o + 14) (some r) = some ((), σ') ∧ CInv Z σ' o r (mPut M (lks (mX M) K') (mU M)) ∧ chgH (stS o) σ σ' := by
  have I := C.1
  have hX := I.2.2.2.2.1
  have c := (chgH.rf (crtS (o + 14)) σ).wr hb (kMi (mK M)) v
  have hZ : ∀ x, Z x → ¬ crtS (o + 14) x := fun x hz h => I.2.2.1 x hz (by unfold stS; unfold crtS at h; omega)
  obtain ⟨σ1, e1, k1, c1⟩ := h_looks (I.1.chg c).court (I.2.1.same (agr_chg c hZ)) I.zc (K := K') (by rw [he]; exact k) hX (by rw [he]; exact hw)
  exact ⟨σ1, e1, C.crt (c.tr c1) k1 (lks_wf (by rw [he]; exact hw)), crt_st (c.tr c1)⟩
theorem h_go (C : CInv Z σ o r M) (hM : WfM M) {x y : Int} (wx : wd x) (wy : wd y) : ∃ σ' : Hp, f_X0_go σ o x y = some (if g_go M x y then 1 else 0, σ') ∧ CInv Z σ' o r (a_go M x y) ∧ chgH (stS o) σ σ' := by
  have I := C.1
  have hW := I.2.2.2.2.2
  have a2 := hW.1
  have hO := I.1
  have J := I.ci
  have hc := hO.court
  have hX := I.2.2.2.2.1
  have a0 := hX.1
  have a1 := hX.2.2.1
  unfold f_X0_go a_go
  by_cases c1 : 0 ≤ x ∧ x < xM (mX M)
  · have hw := (hW.2.1 x (kMi (mK M)) c1.1 c1.2 a2.1 (Int.le_refl _)).1
    have hwy := wys_le hX (kW (mK M) x (kMi (mK M)))
    obtain ⟨br, er, r1, r2, r3⟩ := x_rooms I.2.1
    have hR := r3 (kW (mK M) x (kMi (mK M))) hw.1 hw.2
    obtain ⟨zz, g, d, gd, s1, s2, -, s4, s5, s6⟩ := hR
    have hg2 : gI σ 10 (some (er (kW (mK M) x (kMi (mK M))))) 2 = some (wys (mX M) (kW (mK M) x (kMi (mK M)))) := by rw [gI_s s1, s5]
    by_cases c2 : 1 ≤ y ∧ y ≤ wys (mX M) (kW (mK M) x (kMi (mK M)))
    · rw [if_pos ⟨c1, c2⟩, if_pos ⟨c1, c2⟩]
      obtain ⟨σ0, e0, C0, st0⟩ := h_keeps C hM
      have I0 := C0.1
      have J0 := I0.ci
      have hc0 := I0.1.court
      have hag : agr Z σ σ0 := agr_chg st0 I.2.2.1
      obtain ⟨zz', g', d', gd', s1', s2', -, s4', s5', s6'⟩ := (r3 (kW (mK M) x (kMi (mK M))) hw.1 hw.2).same hag
      have hg1 : gR σ0 10 (some (er (kW (mK M) x (kMi (mK M))))) 1 = some (some d') := by rw [gR_s s1', s2']
      have hdr : aI σ0 100 (some d') (y - 1) = some (thr1 (mX M) (kW (mK M) x (kMi (mK M))) y) := by
        rw [aI_s s4' (by omega) (by omega) (by omega), s6' _ (by omega) (by omega), Int.sub_add_cancel]
      have ht := thr1_in hX (k := y) hw
      have hk0 : CatQ (kMi (mK M)) σ0 (o + 14) (mX M) (mK M) := I0.2.2.2.1
      have hcat : CatQ (kMi (mK M) - 1) (wr σ0 (o + 14 + 2 + x.toNat) (kMi (mK M)) (thr1 (mX M) (kW (mK M) x (kMi (mK M))) y)) (o + 14) (mX M) (setW (mK M) x (kMi (mK M)) (thr1 (mX M) (kW (mK M) x (kMi (mK M))) y)) := CatQ.wrW (hk0.le (by omega)) hc0 hX _ c1.1 (by omega)
      have hwf : WfQ (kMi (mK M) - 1) (mX M) (setW (mK M) x (kMi (mK M)) (thr1 (mX M) (kW (mK M) x (kMi (mK M))) y)) := (hW.le (by omega)).setW x _ ht
      obtain ⟨σ1, e1, C1, st1⟩ := h_wl C0 (b := o + 14 + 2 + x.toNat) (by unfold crtS; omega) hcat rfl hwf
      refine ⟨σ1, ?_, C1, st0.tr st1⟩
      have em0 : ∀ {β : Type} (f : Int → Option β), (gI σ0 5 (some (o + 14)) 9).bind f = f (kMi (mK M)) := fun f => cb_mi J0 f
      have O1 := I0.1.chg ((chgH.rf (crtS (o + 14)) σ0).wr (show crtS (o + 14) (o + 14 + 2 + x.toNat) by unfold crtS; omega) (kMi (mK M)) (thr1 (mX M) (kW (mK M) x (kMi (mK M))) y))
      have e1' : f_X5_looks (wr σ0 (o + 14 + 2 + x.toNat) (kMi (mK M)) (thr1 (mX M) (kW (mK M) x (kMi (mK M))) y)) (o + 14) (some r) = some ((), σ1) := e1
      rw [o_rcv hO, man_t I c1.1 c1.2, if_pos (by decide), o_g3 hO, obP r1, o_g7 hO, c_g0b hc, c_r0b hc c1.1 (by omega), o_g7 hO, cb_mi J, cb_W J c1.1 c1.2 a2.1 (Int.le_refl _), l_rcvb r2, l_getb r2 hw.1 hw.2, kst_1 s1, obP hg2, i_t c2.1 c2.2 (by omega) (by omega) (by omega) (by omega), if_pos (by decide), o_rcv hO, bnP e0, o_g7 I0.1, c_g0b hc0, c_r0b hc0 c1.1 (by omega), o_g7 I0.1, em0, obP hg1, obP hdr, i8_i (z := thr1 (mX M) (kW (mK M) x (kMi (mK M))) y) (by omega) (by omega), i8_i (z := thr1 (mX M) (kW (mK M) x (kMi (mK M))) y) (by omega) (by omega), c_s0b hc0 _ c1.1 (by omega) a2.1 (by omega), o_g7 O1, o_g3 O1, c_ob O1.court, bnP e1']
    · rw [if_neg (fun h => c2 h.2), if_neg (fun h => c2 h.2)]
      refine ⟨σ, ?_, C, chgH.rf _ _⟩
      rw [o_rcv hO, man_t I c1.1 c1.2, if_pos (by decide), o_g3 hO, obP r1, o_g7 hO, c_g0b hc, c_r0b hc c1.1 (by omega), o_g7 hO, cb_mi J, cb_W J c1.1 c1.2 a2.1 (Int.le_refl _), l_rcvb r2, l_getb r2 hw.1 hw.2, kst_1 s1, obP hg2, i_f (by omega) (by omega) (by omega) (by omega) (by omega) (by omega) (by omega), if_neg (by decide)]
  · rw [if_neg (fun h => c1 h.1), if_neg (fun h => c1 h.1)]
    refine ⟨σ, ?_, C, chgH.rf _ _⟩
    rw [o_rcv hO, man_f I (by omega) wx.1 wx.2, if_neg (by decide)]
theorem h_raise (C : CInv Z σ o r M) (hM : WfM M) {x y : Int} (wx : wd x) (wy : wd y) : ∃ σ' : Hp, f_X0_raise σ o x y = some (if g_raise M x y then 1 else 0, σ') ∧ CInv Z σ' o r (a_raise M x y) ∧ chgH (stS o) σ σ' := by
  have I := C.1
  have hW := I.2.2.2.2.2
  have a2 := hW.1
  have hO := I.1
  have J := I.ci
  have hc := hO.court
  have hX := I.2.2.2.2.1
  have a1 := hX.2.2.1
  unfold f_X0_raise a_raise
  by_cases G : g_raise M x y
  · rw [if_pos G, if_pos G]
    obtain ⟨c1, c2, c3⟩ := G
    have hw := (hW.2.1 x (kMi (mK M)) c1.1 c1.2 a2.1 (Int.le_refl _)).2
    obtain ⟨σ0, e0, C0, st0⟩ := h_keeps C hM
    have I0 := C0.1
    have J0 := I0.ci
    have hc0 := I0.1.court
    have hk0 : CatQ (kMi (mK M)) σ0 (o + 14) (mX M) (mK M) := I0.2.2.2.1
    have hcat : CatQ (kMi (mK M) - 1) (wr σ0 (o + 14 + 9 + x.toNat) (kMi (mK M)) y) (o + 14) (mX M) (setR (mK M) x (kMi (mK M)) y) := CatQ.wrR (hk0.le (by omega)) hc0 hX _ c1.1 (by omega)
    have hwf : WfQ (kMi (mK M) - 1) (mX M) (setR (mK M) x (kMi (mK M)) y) := (hW.le (by omega)).setR x _ c2
    obtain ⟨σ1, e1, C1, st1⟩ := h_wl C0 (b := o + 14 + 9 + x.toNat) (by unfold crtS; omega) hcat rfl hwf
    refine ⟨σ1, ?_, C1, st0.tr st1⟩
    have em0 : ∀ {β : Type} (f : Int → Option β), (gI σ0 5 (some (o + 14)) 9).bind f = f (kMi (mK M)) := fun f => cb_mi J0 f
    have O1 := I0.1.chg ((chgH.rf (crtS (o + 14)) σ0).wr (show crtS (o + 14) (o + 14 + 9 + x.toNat) by unfold crtS; omega) (kMi (mK M)) y)
    have e1' : f_X5_looks (wr σ0 (o + 14 + 9 + x.toNat) (kMi (mK M)) y) (o + 14) (some r) = some ((), σ1) := e1
    rw [o_rcv hO, man_t I c1.1 c1.2, if_neg (by decide), i_t c2.1 c2.2 (by omega) (by omega) (by decide) (by decide), if_neg (by decide), o_g7 hO, c_g1b hc, c_r1b hc c1.1 (by omega), o_g7 hO, cb_mi J, cb_R J c1.1 c1.2 a2.1 (Int.le_refl _), nrm_i (by omega) (by omega), nrm_i (by omega) (by omega), if_pos c3, o_rcv hO, bnP e0, o_g7 I0.1, c_g1b hc0, c_r1b hc0 c1.1 (by omega), o_g7 I0.1, em0, i8_i (z := y) (by omega) (by omega), i8_i (z := y) (by omega) (by omega), c_s1b hc0 _ c1.1 (by omega) a2.1 (by omega), o_g7 O1, o_g3 O1, c_ob O1.court, bnP e1']
  · rw [if_neg G, if_neg G]
    refine ⟨σ, ?_, C, chgH.rf _ _⟩
    by_cases c1 : 0 ≤ x ∧ x < xM (mX M)
    · by_cases c2 : 0 ≤ y ∧ y ≤ 20
      · have c3 : kR (mK M) x (kMi (mK M)) = y := Classical.byContradiction fun h => G ⟨c1, c2, h⟩
        have hw := (hW.2.1 x (kMi (mK M)) c1.1 c1.2 a2.1 (Int.le_refl _)).2
        rw [o_rcv hO, man_t I c1.1 c1.2, if_neg (by decide), i_t c2.1 c2.2 (by omega) (by omega) (by decide) (by decide), if_neg (by decide), o_g7 hO, c_g1b hc, c_r1b hc c1.1 (by omega), o_g7 hO, cb_mi J, cb_R J c1.1 c1.2 a2.1 (Int.le_refl _), nrm_i (by omega) (by omega), nrm_i (by omega) (by omega), if_neg (fun h => h c3)]
      · rw [o_rcv hO, man_t I c1.1 c1.2, if_neg (by decide), i_f (by omega) wy.1 wy.2 (by decide) (by decide) (by decide) (by decide), if_pos (by decide)]
    · rw [o_rcv hO, man_f I (by omega) wx.1 wx.2, if_pos (by decide)]
theorem h_carry (C : CInv Z σ o r M) (hM : WfM M) {x y : Int} (wx : wd x) (wy : wd y) : ∃ σ' : Hp, f_X0_carry σ o x y = some (if g_carry M x y then 1 else 0, σ') ∧ CInv Z σ' o r (a_carry M x y) ∧ chgH (stS o) σ σ' := by
  have I := C.1
  have hW := I.2.2.2.2.2
  have a2 := hW.1
  have hO := I.1
  have J := I.ci
  have hc := hO.court
  have hX := I.2.2.2.2.1
  have a0 := hX.1
  have a4 := hX.2.2.2.1
  unfold f_X0_carry a_carry
  by_cases G : g_carry M x y
  · rw [if_pos G, if_pos G]
    obtain ⟨c1, c2, c3⟩ := G
    have hw := (hW.2.2.1 x (kMi (mK M)) c1.1 c1.2 a2.1 (Int.le_refl _)).1
    obtain ⟨σ0, e0, C0, st0⟩ := h_keeps C hM
    have I0 := C0.1
    have J0 := I0.ci
    have hc0 := I0.1.court
    have hk0 : CatQ (kMi (mK M)) σ0 (o + 14) (mX M) (mK M) := I0.2.2.2.1
    have hcat : CatQ (kMi (mK M) - 1) (wr σ0 (o + 14 + 16 + x.toNat) (kMi (mK M)) y) (o + 14) (mX M) (setH (mK M) x (kMi (mK M)) y) := CatQ.wrH (hk0.le (by omega)) hc0 hX _ c1.1 (by omega)
    have hwf : WfQ (kMi (mK M) - 1) (mX M) (setH (mK M) x (kMi (mK M)) y) := (hW.le (by omega)).setH x _ c2
    obtain ⟨σ1, e1, C1, st1⟩ := h_wl C0 (b := o + 14 + 16 + x.toNat) (by unfold crtS; omega) hcat rfl hwf
    refine ⟨σ1, ?_, C1, st0.tr st1⟩
    have em0 : ∀ {β : Type} (f : Int → Option β), (gI σ0 5 (some (o + 14)) 9).bind f = f (kMi (mK M)) := fun f => cb_mi J0 f
    have O1 := I0.1.chg ((chgH.rf (crtS (o + 14)) σ0).wr (show crtS (o + 14) (o + 14 + 16 + x.toNat) by unfold crtS; omega) (kMi (mK M)) y)
    have e1' : f_X5_looks (wr σ0 (o + 14 + 16 + x.toNat) (kMi (mK M)) y) (o + 14) (some r) = some ((), σ1) := e1
    unfold f_X0_carry at *
    rw [o_rcv hO, mir_t I c1.1 c1.2, if_neg (by decide), o_rcv hO, room_t I c2.1 c2.2, if_neg (by decide), o_g7 hO, c_g2b hc, c_r2b hc c1.1 (by omega), o_g7 hO, cb_mi J, cb_H J c1.1 c1.2 a2.1 (Int.le_refl _), nrm_i (by omega) (by omega), nrm_i (by omega) (by omega), if_pos c3, o_rcv hO, bnP e0, o_g7 I0.1, c_g2b hc0, c_r2b hc0 c1.1 (by omega), o_g7 I0.1, em0, i8_i (z := y) (by omega) (by omega), i8_i (z := y) (by omega) (by omega), c_s2b hc0 _ c1.1 (by omega) a2.1 (by omega), o_g7 O1, o_g3 O1, c_ob O1.court, bnP e1']
  · rw [if_neg G, if_neg G]
    refine ⟨σ, ?_, C, chgH.rf _ _⟩
    by_cases c1 : 0 ≤ x ∧ x < xK (mX M)
    · by_cases c2 : 0 ≤ y ∧ y < xR (mX M)
      · have c3 : kH (mK M) x (kMi (mK M)) = y := Classical.byContradiction fun h => G ⟨c1, c2, h⟩
        have hw := (hW.2.2.1 x (kMi (mK M)) c1.1 c1.2 a2.1 (Int.le_refl _)).1
        rw [o_rcv hO, mir_t I c1.1 c1.2, if_neg (by decide), o_rcv hO, room_t I c2.1 c2.2, if_neg (by decide), o_g7 hO, c_g2b hc, c_r2b hc c1.1 (by omega), o_g7 hO, cb_mi J, cb_H J c1.1 c1.2 a2.1 (Int.le_refl _), nrm_i (by omega) (by omega), nrm_i (by omega) (by omega), if_neg (fun h => h c3)]
      · rw [o_rcv hO, mir_t I c1.1 c1.2, if_neg (by decide), o_rcv hO, room_f I (by omega) wy.1 wy.2, if_pos (by decide)]
    · rw [o_rcv hO, mir_f I (by omega) wx.1 wx.2, if_pos (by decide)]
theorem h_turn (C : CInv Z σ o r M) (hM : WfM M) {x y : Int} (wx : wd x) (hy : y = 0 ∨ y = 1) : ∃ σ' : Hp, f_X0_turn σ o x y = some (if g_turn M x y then 1 else 0, σ') ∧ CInv Z σ' o r (a_turn M x y) ∧ chgH (stS o) σ σ' := by
  have I := C.1
  have hW := I.2.2.2.2.2
  have a2 := hW.1
  have hO := I.1
  have J := I.ci
  have hc := hO.court
  have hX := I.2.2.2.2.1
  have a4 := hX.2.2.2.1
  unfold f_X0_turn a_turn
  by_cases c1 : 0 ≤ x ∧ x < xK (mX M)
  · have hw := (hW.2.2.1 x (kMi (mK M)) c1.1 c1.2 a2.1 (Int.le_refl _)).2.1
    by_cases c3 : kU (mK M) x (kMi (mK M)) = y
    · rw [if_neg (fun h => h.2 c3), if_neg (fun h => h.2 c3)]
      refine ⟨σ, ?_, C, chgH.rf _ _⟩
      rw [o_rcv hO, mir_t I c1.1 c1.2, if_neg (by decide), o_g7 hO, c_g3b hc, c_r3b hc c1.1 (by omega), o_g7 hO, cb_mi J, cb_U J c1.1 c1.2 a2.1 (Int.le_refl _), if_neg (fun h => h (by rw [c3]))]
    · rw [if_pos ⟨c1, c3⟩, if_pos ⟨c1, c3⟩]
      obtain ⟨σ0, e0, C0, st0⟩ := h_keeps C hM
      have I0 := C0.1
      have J0 := I0.ci
      have hc0 := I0.1.court
      have hcat : Cat (wr σ0 (o + 14 + 25 + x.toNat) (kMi (mK M)) y) (o + 14) (mX M) (setU (mK M) x (kMi (mK M)) y) := CatQ.wrU (I0.2.2.2.1 : Cat σ0 (o + 14) (mX M) (mK M)) hc0 hX _ c1.1 (by omega)
      have c := (chgH.rf (crtS (o + 14)) σ0).wr (show crtS (o + 14) (o + 14 + 25 + x.toNat) by unfold crtS; omega) (kMi (mK M)) y
      refine ⟨_, ?_, C0.crt c hcat (hW.setU x _ hy), st0.tr (crt_st c)⟩
      have em0 : ∀ {β : Type} (f : Int → Option β), (gI σ0 5 (some (o + 14)) 9).bind f = f (kMi (mK M)) := fun f => cb_mi J0 f
      have eb : b1I y = y := by rcases hy with h | h <;> rw [h] <;> decide
      rw [o_rcv hO, mir_t I c1.1 c1.2, if_neg (by decide), o_g7 hO, c_g3b hc, c_r3b hc c1.1 (by omega), o_g7 hO, cb_mi J, cb_U J c1.1 c1.2 a2.1 (Int.le_refl _), nrm_i (by omega) (by omega), nrm_i (by omega) (by omega), if_pos c3, o_rcv hO, bnP e0, o_g7 I0.1, c_g3b hc0, c_r3b hc0 c1.1 (by omega), o_g7 I0.1, em0, eb, c_s3b hc0 _ c1.1 (by omega) a2.1 (by omega)]
  · rw [if_neg (fun h => c1 h.1), if_neg (fun h => c1 h.1)]
    refine ⟨σ, ?_, C, chgH.rf _ _⟩
    rw [o_rcv hO, mir_f I (by omega) wx.1 wx.2, if_pos (by decide)]
theorem h_smash (C : CInv Z σ o r M) (hM : WfM M) {x : Int} (wx : wd x) : ∃ σ' : Hp, f_X0_smash σ o x = some (if g_smash M x then 1 else 0, σ') ∧ CInv Z σ' o r (a_smash M x) ∧ chgH (stS o) σ σ' := by
  have I := C.1
  have hW := I.2.2.2.2.2
  have a2 := hW.1
  have hO := I.1
  have J := I.ci
  have hX := I.2.2.2.2.1
  unfold f_X0_smash a_smash
  by_cases c1 : 0 ≤ x ∧ x < xK (mX M)
  · have hb := (hW.2.2.2 x c1.1 c1.2).1
    by_cases c3 : kB (mK M) x = 300
    · rw [if_pos ⟨c1, c3⟩, if_pos ⟨c1, c3⟩]
      obtain ⟨σ0, e0, C0, st0⟩ := h_keeps C hM
      have I0 := C0.1
      obtain ⟨σ1, e1, k1, c⟩ := h_breaks I0.1.court (I0.2.2.2.1 : Cat σ0 (o + 14) (mX M) (mK M)) hX hW c1.1 c1.2
      refine ⟨σ1, ?_, C0.crt c k1 (setB_wf hW c1.1 c1.2), st0.tr (crt_st c)⟩
      rw [o_rcv hO, mir_t I c1.1 c1.2, if_neg (by decide), o_g7 hO, o_g7 hO, cb_mi J, c_ob hO.court, hb_isBroken J c1.1 c1.2 a2.1 (by omega), if_neg (show ¬ kB (mK M) x ≤ kMi (mK M) by omega), if_pos (by decide), o_rcv hO, bnP e0, o_g7 I0.1, c_ob I0.1.court, bnP e1]
    · rw [if_neg (fun h => c3 h.2), if_neg (fun h => c3 h.2)]
      refine ⟨σ, ?_, C, chgH.rf _ _⟩
      rw [o_rcv hO, mir_t I c1.1 c1.2, if_neg (by decide), o_g7 hO, o_g7 hO, cb_mi J, c_ob hO.court, hb_isBroken J c1.1 c1.2 a2.1 (by omega), if_pos (show kB (mK M) x ≤ kMi (mK M) by omega), if_neg (by decide)]
  · rw [if_neg (fun h => c1 h.1), if_neg (fun h => c1 h.1)]
    refine ⟨σ, ?_, C, chgH.rf _ _⟩
    rw [o_rcv hO, mir_f I (by omega) wx.1 wx.2, if_pos (by decide)]
end
