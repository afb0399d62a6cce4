set_option maxRecDepth 100000
set_option maxHeartbeats 1000000
section
variable {s s' τ : TW} {X : Txt} {K K0 : Crt} {T : Tld} {β : Type}
/-- how a court begins -/
def BgK (X : Txt) (a v : Int) (K0 : Crt) : Prop := (kMi K0 = 0 ∧ kSd K0 = xS X) ∧ (∀ m : Int, 0 ≤ m → m < xM X → kW K0 m 0 = (if m = a then v else xRm X m) ∧ kR K0 m 0 = xRk X m) ∧ (∀ k : Int, 0 ≤ k → k < xK X → kH K0 k 0 = xHg X k ∧ kU K0 k 0 = 0) ∧ ∀ k : Int, 0 ≤ k → k < xK X → kB K0 k = 300 ∧ kF K0 k = -2
theorem t_beginsWith (hX : WfX X) (hs : RepX s X) {a v : Int} (wa : wd a) (wv : wd v) (hK : BgK X a v K0) (hW : WfQ (kMi K0 - 1) X K0) : ∃ s' : TW, f_X8_beginsWith s a v = some ((), s') ∧ TI s' X (lks X K0) ∧ s'.1 60 = xS X ∧ chg [49, 50, 56, 58, 59] [51, 57, 60] s s' := by
  have a0 := hX.1
  have a1 := hX.2.2.1
  have a4 := hX.2.2.2.1
  have hSd := hX.2.2.2.2.2.1
  unfold f_X8_beginsWith
  rw [bdS]
  have c0 : chg [56] [57] s (tp s 57 0) := (chg.rf _ _ s).tp (by decide) _
  -- noughts
  have l7 : ∀ kk : TW → Int → Int → Option (Unit × TW), ∃ s' : TW, f_X8_beginsWith_L7 FU (tp s 57 0) a v 0 kk = kk s' a v ∧ (∀ j : Int, 0 ≤ j → j < 36 → s'.2 56 j = 0) ∧ s'.1 57 = 0 ∧ chg [56] [57] s s' := by
    intro kk
    refine loop (S := TW × Int) (fun fl q => f_X8_beginsWith_L7 fl q.1 a v q.2 kk) (fun o => ∃ s' : TW, o = kk s' a v ∧ (∀ j : Int, 0 ≤ j → j < 36 → s'.2 56 j = 0) ∧ s'.1 57 = 0 ∧ chg [56] [57] s s')
      (fun i q => q.2 = (i : Int) ∧ (∀ j : Int, 0 ≤ j → j < i → q.1.2 56 j = 0) ∧ q.1.1 57 = 0 ∧ chg [56] [57] s q.1) 36 ?_ ?_ 36 0 FU (tp s 57 0, 0) rfl (by decide) ⟨rfl, fun _ _ h => by omega, tp_eq _ _ _, c0⟩
    · rintro fl i ⟨τ, q⟩ hi ⟨rfl, hl, hm, hc⟩
      dsimp only at hl hm hc ⊢
      right
      refine ⟨(tst τ 56 i 0, ((i + 1 : Nat) : Int)), ?_, rfl, ?_, hm, hc.ts (by decide) _ _⟩
      · rw [f_X8_beginsWith_L7, nrm_i (z := 36) (by decide) (by decide), nrm_i (z := (i : Int)) (by omega) (by omega), if_neg (by omega), sb56 (by omega) (by omega)]
        rfl
      · intro j j0 j1
        dsimp only
        rw [tst_eq]
        by_cases e : j = i
        · rw [e, fuE]
        · rw [fuN _ _ e]; exact hl j j0 (by omega)
    · rintro fl ⟨τ, q⟩ ⟨rfl, hl, hm, hc⟩
      dsimp only at hl hm hc ⊢
      exact ⟨τ, by rw [f_X8_beginsWith_L7, if_pos (by decide)], fun j j0 j1 => hl j j0 (by omega), hm, hc⟩
  obtain ⟨s1, e1, z1, m1, c1⟩ := l7 (fun s4 x1 x2 => f_X8_beginsWith_L28 FU s4 x1 x2 0 (fun s13 => f_X8_beginsWith_L101 FU s13 0 (fun s19 => (ta s19 35 (s19.1 18)).bind fun v20 => bd (tp s19 60 v20) fun s21 => bt_ (f_X8_fillsLate s21) fun _ s22 => some ((), s22))))
  rw [e1]
  -- men
  have l28 : ∀ kk : TW → Option (Unit × TW), ∃ s' : TW, f_X8_beginsWith_L28 FU s1 a v 0 kk = kk s' ∧ ((∀ m : Int, 0 ≤ m → m < xM X → s'.2 56 m = (if m = a then v else xRm X m) ∧ s'.2 56 (6 + m) = xRk X m) ∧ ∀ j : Int, 12 ≤ j → j < 36 → s'.2 56 j = 0) ∧ s'.1 57 = 0 ∧ chg [56] [57] s s' := by
    intro kk
    refine loop (S := TW × Int) (fun fl q => f_X8_beginsWith_L28 fl q.1 a v q.2 kk) (fun o => ∃ s' : TW, o = kk s' ∧ ((∀ m : Int, 0 ≤ m → m < xM X → s'.2 56 m = (if m = a then v else xRm X m) ∧ s'.2 56 (6 + m) = xRk X m) ∧ ∀ j : Int, 12 ≤ j → j < 36 → s'.2 56 j = 0) ∧ s'.1 57 = 0 ∧ chg [56] [57] s s')
      (fun i q => q.2 = (i : Int) ∧ ((∀ m : Int, 0 ≤ m → m < i → q.1.2 56 m = (if m = a then v else xRm X m) ∧ q.1.2 56 (6 + m) = xRk X m) ∧ ∀ j : Int, 12 ≤ j → j < 36 → q.1.2 56 j = 0) ∧ q.1.1 57 = 0 ∧ chg [56] [57] s q.1) (xM X).toNat ?_ ?_ (xM X).toNat 0 FU (s1, 0) (by omega) (by rw [FU_eq]; omega) ⟨rfl, ⟨fun _ _ h => by omega, fun j j0 j1 => z1 j (by omega) j1⟩, m1, c1⟩
    · rintro fl i ⟨τ, q⟩ hi ⟨rfl, ⟨hl, hz⟩, hm, hc⟩
      dsimp only at hl hz hm hc ⊢
      have hst := hs.same (hc.text (by decide) (by decide))
      have h18 := hst.1
      have hx := hst.2.2.2.1 i (by omega) (by omega)
      have hxm := hX.2.2.2.2.2.2.2.1 i (by omega) (by omega)
      have t30 : ta τ 30 (6 * τ.1 18 + i) = some (xRm X i) := by rw [ta30 (by omega) (by omega), hx.2.1]
      have key : ∀ y : Int, y = (if (i : Int) = a then v else xRm X i) → ((ts τ 56 (i : Int) (nrm y)).bind fun s7 => (ta s7 29 ((6 * (s7.1 18)) + (i : Int))).bind fun v8 => (ts s7 56 (6 + (i : Int)) v8).bind fun s9 => f_X8_beginsWith_L28 fl s9 a v ((i : Int) + 1) kk) = f_X8_beginsWith_L28 fl (tst (tst τ 56 i (if (i : Int) = a then v else xRm X i)) 56 (6 + i) (xRk X i)) a v ((i : Int) + 1) kk := by
        intro y hy
        have hyw : nrm y = if (i : Int) = a then v else xRm X i := by
          rw [hy]
          split
          · exact nrm_i wv.1 wv.2
          · exact nrm_i (by omega) (by omega)
        have t29 : ta (tst τ 56 i (if (i : Int) = a then v else xRm X i)) 29 (6 * τ.1 18 + i) = some (xRk X i) := by
          rw [ta29 (by omega) (by omega), tst_ne _ _ _ (by decide), hx.1]
        rw [hyw, sb56 (by omega) (by omega)]
        show ((ta (tst τ 56 i (if (i : Int) = a then v else xRm X i)) 29 (6 * τ.1 18 + i)).bind fun v8 => _) = _
        rw [obP t29, sb56 (by omega) (by omega)]
      right
      refine ⟨(tst (tst τ 56 i (if (i : Int) = a then v else xRm X i)) 56 (6 + i) (xRk X i), ((i + 1 : Nat) : Int)), ?_, rfl, ⟨?_, ?_⟩, hm, (hc.ts (by decide) _ _).ts (by decide) _ _⟩
      · rw [f_X8_beginsWith_L28, tz_M hst, nrm_i (z := xM X) (by omega) (by omega), nrm_i (z := (i : Int)) (by omega) (by omega), if_neg (by omega), jnS, nrm_i wa.1 wa.2]
        by_cases d : (i : Int) = a
        · rw [if_neg (fun h => h d)]
          exact key v (by rw [if_pos d])
        · rw [if_pos d, obP t30]
          exact key (xRm X i) (by rw [if_neg d])
      · intro m m0 m1
        dsimp only
        rw [tst_eq, tst_eq]
        by_cases e : m = i
        · rw [e, fuN _ _ (by omega), fuE, fuE]; exact ⟨rfl, rfl⟩
        · rw [fuN _ _ (by omega), fuN _ _ e, fuN _ _ (by omega), fuN _ _ (by omega)]
          exact hl m m0 (by omega)
      · intro j j0 j1
        dsimp only
        rw [tst_eq, tst_eq, fuN _ _ (by omega), fuN _ _ (by omega)]
        exact hz j j0 j1
    · rintro fl ⟨τ, q⟩ ⟨rfl, ⟨hl, hz⟩, hm, hc⟩
      dsimp only at hl hz hm hc ⊢
      have hst := hs.same (hc.text (by decide) (by decide))
      refine ⟨τ, ?_, ⟨fun m m0 m1 => hl m m0 (by omega), hz⟩, hm, hc⟩
      rw [f_X8_beginsWith_L28, tz_M hst, nrm_i (by omega) (by omega), nrm_i (by omega) (by omega), if_pos (by omega)]
  obtain ⟨s2, e2, ⟨w2, z2⟩, m2, c2⟩ := l28 (fun s13 => f_X8_beginsWith_L101 FU s13 0 (fun s19 => (ta s19 35 (s19.1 18)).bind fun v20 => bd (tp s19 60 v20) fun s21 => bt_ (f_X8_fillsLate s21) fun _ s22 => some ((), s22)))
  rw [e2]
  -- mirrors
  have l101 : ∀ kk : TW → Option (Unit × TW), ∃ s' : TW, f_X8_beginsWith_L101 FU s2 0 kk = kk s' ∧ ((∀ k : Int, 0 ≤ k → k < 8 → s'.2 56 (12 + k) = s.2 32 (8 * s.1 18 + k) ∧ s'.2 58 k = -1 ∧ s'.2 59 k = -2) ∧ ∀ j : Int, (j < 12 ∨ 20 ≤ j) → s'.2 56 j = s2.2 56 j) ∧ s'.1 57 = 0 ∧ chg [56, 58, 59] [57] s s' := by
    intro kk
    refine loop (S := TW × Int) (fun fl q => f_X8_beginsWith_L101 fl q.1 q.2 kk) (fun o => ∃ s' : TW, o = kk s' ∧ ((∀ k : Int, 0 ≤ k → k < 8 → s'.2 56 (12 + k) = s.2 32 (8 * s.1 18 + k) ∧ s'.2 58 k = -1 ∧ s'.2 59 k = -2) ∧ ∀ j : Int, (j < 12 ∨ 20 ≤ j) → s'.2 56 j = s2.2 56 j) ∧ s'.1 57 = 0 ∧ chg [56, 58, 59] [57] s s')
      (fun i q => q.2 = (i : Int) ∧ ((∀ k : Int, 0 ≤ k → k < i → q.1.2 56 (12 + k) = s.2 32 (8 * s.1 18 + k) ∧ q.1.2 58 k = -1 ∧ q.1.2 59 k = -2) ∧ ∀ j : Int, (j < 12 ∨ 20 ≤ j) → q.1.2 56 j = s2.2 56 j) ∧ q.1.1 57 = 0 ∧ chg [56, 58, 59] [57] s q.1) 8 ?_ ?_ 8 0 FU (s2, 0) rfl (by decide) ⟨rfl, ⟨fun _ _ h => by omega, fun _ _ => rfl⟩, m2, c2.up (by decide) (by decide)⟩
    · rintro fl i ⟨τ, q⟩ hi ⟨rfl, ⟨hl, hz⟩, hm, hc⟩
      dsimp only at hl hz hm hc ⊢
      have h18 : τ.1 18 = s.1 18 := hc.2 18 (by decide)
      have h18' := hs.1
      have t32 : ta τ 32 (8 * τ.1 18 + i) = some (s.2 32 (8 * s.1 18 + i)) := by rw [h18, ta32 (by omega) (by omega), hc.1 32 (by decide)]
      right
      refine ⟨(tst (tst (tst τ 56 (12 + i) (s.2 32 (8 * s.1 18 + i))) 58 i (-1)) 59 i (-2), ((i + 1 : Nat) : Int)), ?_, rfl, ⟨?_, ?_⟩, hm, ((hc.ts (by decide) _ _).ts (by decide) _ _).ts (by decide) _ _⟩
      · rw [f_X8_beginsWith_L101, nrm_i (z := 8) (by decide) (by decide), nrm_i (z := (i : Int)) (by omega) (by omega), if_neg (by omega), obP t32, sb56 (by omega) (by omega), sb58 (by omega) (by omega), sb59 (by omega) (by omega)]
        rfl
      · intro k k0 k1
        dsimp only
        rw [tst_eq, tst_ne _ _ _ (by decide), tst_ne _ _ _ (by decide), tst_eq, tst_ne _ _ _ (by decide), tst_eq, tst_ne _ _ _ (by decide), tst_ne _ _ _ (by decide)]
        by_cases e : k = i
        · rw [e, fuE, fuE, fuE]; exact ⟨rfl, rfl, rfl⟩
        · rw [fuN _ _ (by omega), fuN _ _ e, fuN _ _ e]
          exact hl k k0 (by omega)
      · intro j hj
        dsimp only
        rw [tst_ne _ _ _ (by decide), tst_ne _ _ _ (by decide), tst_eq, fuN _ _ (by omega)]
        exact hz j hj
    · rintro fl ⟨τ, q⟩ ⟨rfl, ⟨hl, hz⟩, hm, hc⟩
      dsimp only at hl hz hm hc ⊢
      exact ⟨τ, by rw [f_X8_beginsWith_L101, if_pos (by decide)], ⟨fun k k0 k1 => hl k k0 (by omega), hz⟩, hm, hc⟩
  obtain ⟨s3, e3, ⟨w3, z3⟩, m3, c3⟩ := l101 (fun s19 => (ta s19 35 (s19.1 18)).bind fun v20 => bd (tp s19 60 v20) fun s21 => bt_ (f_X8_fillsLate s21) fun _ s22 => some ((), s22))
  rw [e3]
  have hs3 := hs.same (c3.text (by decide) (by decide))
  have t35 : ta s3 35 (s3.1 18) = some (xS X) := by have := hs3.1; rw [ta35 (by omega) (by omega), hs3.2.1.2.2.2.2.2]
  have c4 : chg [56, 58, 59] [57, 60] s (tp s3 60 (xS X)) := (c3.up (by decide) (by decide)).tp (by decide) _
  have hs4 : RepX (tp s3 60 (xS X)) X := hs.same (c4.text (by decide) (by decide))
  have hr : RepQ (kMi K0 - 1) (tp s3 60 (xS X)) X K0 := by
    obtain ⟨b1, b2, b3, b4⟩ := hK
    refine ⟨m3.trans b1.1.symm, fun m t p0 p1 p2 p3 => ?_, fun k t p0 p1 p2 p3 => ?_, fun k p0 p1 => ?_⟩
    · have ht : t = 0 := by omega
      subst ht
      show s3.2 56 (36 * 0 + m) = _ ∧ s3.2 56 (36 * 0 + 6 + m) = _
      rw [show (36 * 0 + m : Int) = m by omega, show (36 * 0 + 6 + m : Int) = 6 + m by omega, z3 _ (by omega), z3 _ (by omega), (b2 m p0 p1).1, (b2 m p0 p1).2]
      exact w2 m p0 p1
    · have ht : t = 0 := by omega
      subst ht
      show s3.2 56 (36 * 0 + 12 + k) = _ ∧ s3.2 56 (36 * 0 + 20 + k) = _ ∧ (_ → _)
      rw [show (36 * 0 + 12 + k : Int) = 12 + k by omega, show (36 * 0 + 20 + k : Int) = 20 + k by omega, (w3 k p0 (by omega)).1, z3 _ (by omega), z2 _ (by omega) (by omega), (hs.2.2.2.2.1 k p0 p1).1, (b3 k p0 p1).1, (b3 k p0 p1).2]
      exact ⟨rfl, rfl, fun h => by omega⟩
    · show s3.2 58 k = _ ∧ s3.2 59 k = _
      rw [(w3 k p0 (by omega)).2.1, (w3 k p0 (by omega)).2.2, (b4 k p0 p1).1, (b4 k p0 p1).2, if_pos rfl]
      exact ⟨rfl, rfl⟩
  obtain ⟨s5, e5, r5, c5⟩ := t_fillsLate hX hs4 hr hW
  rw [obP t35, bdS, btP e5]
  have cc : chg [49, 50, 56, 58, 59] [51, 57, 60] s s5 := (c4.up (by decide) (by decide)).tr (c5.up (by decide) (by decide))
  exact ⟨s5, rfl, ⟨hX, hs.same (cc.text (by decide) (by decide)), r5, lks_wf hW⟩, (c5.2 60 (by decide)).trans (tp_eq _ _ _), cc⟩
theorem bg_W (X : Txt) {a v : Int} : BgK X a v (setW (bg0 X) a 0 v) := by
  refine ⟨⟨rfl, rfl⟩, fun m _ _ => ⟨?_, rfl⟩, fun k _ _ => ⟨rfl, rfl⟩, fun k _ _ => ⟨rfl, rfl⟩⟩
  show f2 (kW (bg0 X)) a 0 v m 0 = _
  by_cases e : m = a
  · rw [e, f2_eq, if_pos rfl]
  · rw [f2_ne _ _ (by omega), if_neg e]; rfl
theorem bg_0 (X : Txt) (v : Int) : BgK X (-1) v (bg0 X) := ⟨⟨rfl, rfl⟩, fun m h _ => ⟨by rw [if_neg (by omega)]; rfl, rfl⟩, fun k _ _ => ⟨rfl, rfl⟩, fun k _ _ => ⟨rfl, rfl⟩⟩
theorem t_begins (hX : WfX X) (hs : RepX s X) : ∃ s' : TW, f_X8_begins s = some ((), s') ∧ TI s' X (lks X (bg0 X)) ∧ chg [49, 50, 56, 58, 59] [51, 57, 60] s s' := by
  obtain ⟨s', e, J, -, c⟩ := t_beginsWith hX hs (a := -1) (v := -1) ⟨by decide, by decide⟩ ⟨by decide, by decide⟩ (bg_0 X (-1)) (bg0_wf hX)
  exact ⟨s', by unfold f_X8_begins; rw [btP e], J, c⟩
theorem TlT.chg (h : TlT s T) (q : chg qk qf s τ) : TlT τ T := by
  refine ⟨by rw [q.2 67 (by decide)]; exact h.1, fun i i0 i1 => ?_⟩
  rw [q.1 68 (by decide), q.1 69 (by decide), q.1 70 (by decide), q.1 71 (by decide)]
  exact h.2 i i0 i1
theorem t_isSo (hX : WfX X) (hs : RepX s X) (hT : WfT X T) (hC : TlT s T) {a v : Int} (a0' : 0 ≤ a) (a1' : a < xM X) (hv : 0 ≤ v ∧ v < xR X) {n : Nat} (hn : (n : Int) ≤ T.1) : ∃ s' : TW, f_X8_isSo s a v (n : Int) = some (if soB X T a v n = true then 1 else 0, s') ∧ chg qk qf s s' := by
  have a0 := hX.1
  have a1 := hX.2.2.1
  have hls := ls_in hT
  have hT1 := hT.1
  obtain ⟨s1, e1, J1, l1, c1⟩ := t_beginsWith hX hs (a := a) (v := v) ⟨by omega, by omega⟩ ⟨by omega, by omega⟩ (bg_W X) ((bg0_wf hX).setW a 0 hv)
  have q1 : chg qk qf s s1 := c1.up (by decide) (by decide)
  have hC1 := hC.chg q1
  unfold f_X8_isSo
  rw [btP e1]
  have lp1 : ∀ kk : TW → Int → Int → Option (Int × TW), f_X8_isSo_L12 FU s1 (n : Int) 0 0 kk = kk s1 (n : Int) (lsT T n) := by
    intro kk
    obtain ⟨e, -⟩ := loopI (fun fl (l : Int) i => f_X8_isSo_L12 fl s1 (n : Int) l i kk) (fun l => kk s1 (n : Int) l) (lsG T) (fun i l => 0 ≤ l ∧ l ≤ 99) n 0 (fl := FU) (a0 := 0) (by rw [FU_eq]; omega) ⟨by decide, by decide⟩ (fun fl i l hi hp => by
        have ht := (hT.2 i (by omega) (by omega)).2.1
        have hc := (hC1.2 i (by omega) (by omega)).2.1
        have e69 : ta s1 69 i = some (T.2.2.1 i) := by rw [ta69 (by omega) (by omega), hc]
        rw [f_X8_isSo_L12, Int.zero_add, nrm_i (by omega) (by omega), nrm_i (by omega) (by omega), if_neg (by omega), obP e69, obP e69, nrm_i (z := T.2.2.1 i) (by omega) (by omega), nrm_i (z := l) (by omega) (by omega)]
        unfold lsG
        by_cases d : l < T.2.2.1 i
        · rw [if_pos d, if_neg (by omega)]; exact ⟨rfl, ht⟩
        · rw [if_neg d, if_pos (by omega)]; exact ⟨rfl, hp⟩)
      (fun fl l hp => by
        rw [f_X8_isSo_L12, nrm_i (by omega) (by omega), nrm_i (by omega) (by omega), if_pos (by omega)])
    exact e
  rw [lp1]
  have hE := soE_ok hX hT (a := a) hv hn
  obtain ⟨s2, e2, J2, c2⟩ := t_till J1 (l1.trans (bgW_mi X a v).2.symm) (n := lsT T n) (hls n hn).1.1 (by have := (hls n hn).1.2; omega)
  have eb : kMi (lks X (setW (bg0 X) a 0 v)) = 0 := (bgW_mi X a v).1
  rw [eb, Int.zero_add] at e2
  have q2 : chg qk qf s1 s2 := c2.up (by decide) (by decide)
  have hC2 := hC1.chg q2
  rw [btP e2]
  have J2 : TI s2 X (soE X T a v n) := J2
  refine ⟨s2, ?_, q1.tr q2⟩
  have e := loopF (fun fl i => f_X8_isSo_L54 fl s2 (n : Int) i (fun s16 => some (1, s16))) (some (1, s2)) (fun _ => some (0, s2)) (fun i => !soF X T a v n i) n 0 (fl := FU) (by rw [FU_eq]; omega) (fun fl i hi => by
      have ht := hT.2 i (by omega) (by omega)
      have hc := hC2.2 i (by omega) (by omega)
      have hlt := (hls n hn).2 i hi
      have e68 : ta s2 68 i = some (T.2.1 i) := by rw [ta68 (by omega) (by omega), hc.1]
      have e69 : ta s2 69 i = some (T.2.2.1 i) := by rw [ta69 (by omega) (by omega), hc.2.1]
      have e70 : ta s2 70 i = some (T.2.2.2.1 i) := by rw [ta70 (by omega) (by omega), hc.2.2.1]
      have e71 : ta s2 71 i = some (T.2.2.2.2 i) := by rw [ta71 (by omega) (by omega), hc.2.2.2]
      rw [f_X8_isSo_L54, Int.zero_add, nrm_i (by omega) (by omega), nrm_i (by omega) (by omega), if_neg (by omega), obP e68, obP e69, obP e70, tb_isSeenIn J2 ht.1.1 ht.1.2 ht.2.1.1 (by omega) ht.2.2.1.1 (by omega), obP e71]
      unfold soF
      by_cases d : (mSh X (soE X T a v n) (T.2.1 i) (T.2.2.1 i)).testBit (T.2.2.2.1 i).toNat = true
      · rw [if_pos d]
        rcases ht.2.2.2 with h | h
        · rw [h, if_neg (by decide), if_pos (by decide)]
        · rw [h, if_pos (by decide), if_neg (by decide)]
      · rw [if_neg d]
        rcases ht.2.2.2 with h | h
        · rw [h, if_pos (by decide), if_neg (by decide)]
        · rw [h, if_neg (by decide), if_pos (by decide)])
    (fun fl => by
      rw [f_X8_isSo_L54, nrm_i (by omega) (by omega), nrm_i (by omega) (by omega), if_pos (by omega)])
  refine e.trans ((fnd_if _ _ _ _).trans ?_)
  unfold soB
  cases anyN (fun i => !soF X T a v n i) n with
  | true => rfl
  | false => rfl
theorem t_began (Q : TQ s X K) (hT : WfT X T) (hC : TlT s T) {a k i : Int} (wa : wd a) (wk : wd k) (wi : wd i) : ∃ s' : TW, f_X8_began s a k i = some (q_began X T a k i, s') ∧ chg qk qf s s' := by
  obtain ⟨hX, hs, hn, hW⟩ := Q
  have Q : TQ s X K := ⟨hX, hs, hn, hW⟩
  have hmi := Q.mi
  have a0 := hX.1
  have a1 := hX.2.2.1
  have a4 := hX.2.2.2.1
  have a3 := hs.1
  have a2 := hW.1
  have hT1 := hT.1
  have e67 : s.1 67 = T.1 := hC.1
  unfold f_X8_began q_began
  by_cases G : (0 ≤ a ∧ a < xM X) ∧ (0 ≤ k ∧ k ≤ T.1) ∧ -1 ≤ i
  · rw [if_pos G]
    obtain ⟨c1, c2, c3⟩ := G
    have key : ∀ (j v n : Nat) (c : Int) (τ : TW), v + j = (xR X).toNat → j < n → chg qk qf s τ → 0 ≤ c → c ≤ v → ∃ s' : TW, f_X8_began_L33 n τ a k i c (v : Int) (fun s11 x3 x4 => (if ¬ nrm x3 = nrm (-1) then (some ((-1), s11)) else (some (nrm x4, s11)))) = some ((match itE (bnG X T a k.toNat i) v j c with | .inl n => if i = -1 then n else -1 | .inr v => v), s') ∧ chg qk qf s s' := by
      intro j
      induction j with
      | zero =>
        intro v n c τ hv hn hq c0 cv
        obtain ⟨n, rfl⟩ : ∃ q, n = q + 1 := ⟨n - 1, by omega⟩
        have hst := hs.same (hq.text (by decide) (by decide))
        refine ⟨τ, ?_, hq⟩
        rw [f_X8_began_L33, tz_R hst, nrm_i (z := xR X) (by omega) (by omega), nrm_i (z := (v : Int)) (by omega) (by omega), if_pos (by omega), itE, nrm_i (z := i) (by omega) (by omega), nrm_i (z := c) (by omega) (by omega), nrm_i (z := -1) (by decide) (by decide)]
        dsimp only
        by_cases d : i = -1
        · rw [if_neg (fun h => h d), if_pos d]
        · rw [if_pos d, if_neg d]
      | succ j ih =>
        intro v n c τ hv hn hq c0 cv
        obtain ⟨n, rfl⟩ : ∃ q, n = q + 1 := ⟨n - 1, by omega⟩
        have hst := hs.same (hq.text (by decide) (by decide))
        obtain ⟨τ1, e1, q1⟩ := t_isSo hX hst hT (hC.chg hq) (a := a) (v := v) c1.1 c1.2 ⟨by omega, by omega⟩ (n := k.toNat) (by omega)
        rw [show ((k.toNat : Nat) : Int) = k by omega] at e1
        have eb : itE (bnG X T a k.toNat i) v (j + 1) c = match bnG X T a k.toNat i v c with | .inl a' => itE (bnG X T a k.toNat i) (v + 1) j a' | .inr w => .inr w := by rw [itE]; cases bnG X T a k.toNat i v c <;> rfl
        rw [f_X8_began_L33, tz_R hst, nrm_i (z := xR X) (by omega) (by omega), nrm_i (z := (v : Int)) (by omega) (by omega), if_neg (by omega), btP e1, eb]
        unfold bnG
        by_cases d : soB X T a v k.toNat = true
        · rw [if_pos d, if_pos d, if_pos (by decide), nrm_i (z := c) (by omega) (by omega), nrm_i (z := i) (by omega) (by omega)]
          by_cases d2 : c = i
          · rw [if_neg (fun h => h d2), if_pos d2]
            exact ⟨τ1, rfl, hq.tr q1⟩
          · rw [if_pos d2, if_neg d2]
            exact ih (v + 1) n (c + 1) τ1 (by omega) (by omega) (hq.tr q1) (by omega) (by omega)
        · rw [if_neg d, if_neg d, if_neg (by decide)]
          exact ih (v + 1) n c τ1 (by omega) (by omega) (hq.tr q1) c0 (by omega)
    obtain ⟨s', e9, q9⟩ := key (xR X).toNat 0 FU 0 s (by omega) (by rw [FU_eq]; omega) (chg.rf _ _ _) (Int.le_refl _) (Int.le_refl _)
    have e9 : f_X8_began_L33 FU s a k i 0 0 (fun s11 x3 x4 => (if ¬ nrm x3 = nrm (-1) then (some ((-1), s11)) else (some (nrm x4, s11)))) = _ := e9
    refine ⟨s', ?_, q9⟩
    clear key
    simp (disch := omega) only [↓reduceIte, Bool.false_eq_true, nrm_i, ltT, ltF, leT, leF, eqT, eqF, not_true_eq_false, not_false_eq_true, and_self, and_true, true_and, false_and, and_false, or_true, true_or, or_false, false_or, ↓btS, ↓bnS, ↓bdS, ↓jnS, ↓obS, ↓ti_t, ↓tman_t hX hs, ↓e9]
    rfl
  · rw [if_neg G]
    refine ⟨s, ?_, chg.rf _ _ _⟩
    by_cases c1 : 0 ≤ a ∧ a < xM X
    · by_cases c2 : 0 ≤ k ∧ k ≤ T.1
      · by_cases c3 : -1 ≤ i
        · exact absurd ⟨c1, c2, c3⟩ G
        · simp (disch := omega) only [↓reduceIte, Bool.false_eq_true, nrm_i, ltT, ltF, leT, leF, eqT, eqF, not_true_eq_false, not_false_eq_true, and_self, and_true, true_and, false_and, and_false, or_true, true_or, or_false, false_or, ↓btS, ↓bnS, ↓bdS, ↓jnS, ↓obS, ↓ti_t, ↓ti_f, ↓tman_t hX hs, ↓tman_f hX hs]
      · simp (disch := omega) only [↓reduceIte, Bool.false_eq_true, nrm_i, ltT, ltF, leT, leF, eqT, eqF, not_true_eq_false, not_false_eq_true, and_self, and_true, true_and, false_and, and_false, or_true, true_or, or_false, false_or, ↓btS, ↓bnS, ↓bdS, ↓jnS, ↓obS, ↓ti_t, ↓ti_f, ↓tman_t hX hs, ↓tman_f hX hs]
    · simp (disch := omega) only [↓reduceIte, Bool.false_eq_true, nrm_i, ltT, ltF, leT, leF, eqT, eqF, not_true_eq_false, not_false_eq_true, and_self, and_true, true_and, false_and, and_false, or_true, true_or, or_false, false_or, ↓btS, ↓bnS, ↓bdS, ↓jnS, ↓obS, ↓ti_t, ↓ti_f, ↓tman_t hX hs, ↓tman_f hX hs]
end
